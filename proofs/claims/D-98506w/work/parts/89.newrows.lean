/-! plain laws: the row behind a hull, a rota -/
theorem yRowsL_all {tp : Nat → Int32} {n : Nat} {rd first : Int32} {mx : Nat} {row : Nat → Nat → (Int32 × Nat) ⊕ (List Int32 × Nat)} {V : List Int32 → Prop} (hV : ∀ r p vs q, row r p = .inr (vs, q) → V vs) : ∀ (f r p : Nat) (R : List (List Int32)), yRowsL tp n rd first mx row f r p = .inr R → ∀ (i : Nat) (vs : List Int32), R[i]? = some vs → V vs
  | 0, r, p, R, h, i, vs, hi => by cases h; cases hi
  | f + 1, r, p, R, h, i, vs, hi => by
    unfold yRowsL at h
    split at h
    · cases h; cases hi
    · split at h
      · cases h
      · split at h
        · cases h
        · split at h
          · cases h
          · rename_i x q e
            split at h
            · cases h
            · rename_i M e2
              cases h
              cases i with
              | zero => cases hi; exact hV _ _ _ _ e
              | succ i => exact yRowsL_all hV f (r + 1) q M e2 i vs hi
def yWorkV (vs : List Int32) : Prop := ∃ k t a, vs = [k, t, a] ∧ yin k 0 3 = true ∧ yin t 1 3 = true
theorem yWork_V {tp : Nat → Int32} {n : Nat} {rd : Int32} {r p : Nat} {vs : List Int32} {q : Nat} (h : yWorkR2 tp n rd r p = .inr (vs, q)) : yWorkV vs := by
  unfold yWorkR2 at h
  obtain ⟨v0, q0, e0, h⟩ := ybd_inr h
  obtain ⟨v1, q1, e1, h⟩ := ybd_inr h
  obtain ⟨a, q2, e2, h⟩ := ybd_inr h
  split at h
  · cases h
    exact ⟨v0, v1, a, rfl, (yTold_lt (by decide) e0).2.2, (yTold_lt (by decide) e1).2.2⟩
  · cases h
def yRotaV (a b c : Int32) (vs : List Int32) : Prop := ∃ v0 v1 v2 v3 v4, vs = [v0, v1, v2, v3, v4] ∧ yin v0 0 (a - 1) = true ∧ yin v1 0 (b - 1) = true ∧ yin v2 0 (c - 1) = true ∧ yin v3 0 9999 = true ∧ yin v4 1 99 = true
theorem yRota_V {tp : Nat → Int32} {n : Nat} {rd a b c : Int32} {p : Nat} {vs : List Int32} {q : Nat} (h : yRotaR tp n rd a b c p = .inr (vs, q)) : yRotaV a b c vs := by
  unfold yRotaR at h
  obtain ⟨v0, q0, e0, h⟩ := ybd_inr h
  obtain ⟨v1, q1, e1, h⟩ := ybd_inr h
  obtain ⟨v2, q2, e2, h⟩ := ybd_inr h
  obtain ⟨v3, q3, e3, h⟩ := ybd_inr h
  obtain ⟨v4, q4, e4, h⟩ := ybd_inr h
  split at h
  · cases h
    exact ⟨v0, v1, v2, v3, v4, rfl, (yTold_lt (by decide) e0).2.2, (yTold_lt (by decide) e1).2.2, (yTold_lt (by decide) e2).2.2, (yTold_lt (by decide) e3).2.2, (yTold_lt (by decide) e4).2.2⟩
  · cases h
/-- the hull of the row is R -/
def yhullIs (w : Nat → Int32) (R : List (List Int32)) : Prop := w 98 = nI R.length ∧ R.length ≤ 8 ∧ ∀ (i : Nat) (vs : List Int32), R[i]? = some vs → yWorkV vs ∧ ∀ j v, vs[j]? = some v → w (142 + 3 * i + j) = v
theorem yhullIs_of {w : Nat → Int32} {v : zM} {R : List (List Int32)} (h : yrowed 3 v R) (hl : R.length ≤ 8) (hV : ∀ (i : Nat) (vs : List Int32), R[i]? = some vs → yWorkV vs) : yhullIs (yhullw w (v.2 7) R.length) R := by
  refine ⟨?_, hl, fun i vs hi => ⟨hV i vs hi, fun j x hj => ?_⟩⟩
  · unfold yhullw
    rw [if_neg (by omega), if_neg (by omega), if_pos rfl]
  · obtain ⟨h1, h2⟩ := h.2 i vs hi
    have hi2 := (List.getElem?_eq_some_iff.mp hi).1
    have hj2 := (List.getElem?_eq_some_iff.mp hj).1
    unfold yhullw
    rw [if_neg (by omega), if_pos (by omega), show 142 + 3 * i + j - 142 = 3 * i + j by omega]
    exact h2 j x hj
theorem yhullw_o {w f : Nat → Int32} {r j : Nat} (hr : r ≤ 8) (h : (j < 8 ∨ 16 ≤ j) ∧ (j < 142 ∨ 142 + 24 ≤ j) ∧ j ≠ 98 ∧ j ≠ 99 ∧ j ≠ 104) : yhullw w f r j = w j := by
  unfold yhullw
  rw [if_neg (by omega), if_neg (by omega), if_neg (by omega), if_neg (by omega), if_neg (by omega)]
theorem yWorkV.k {vs : List Int32} (h : yWorkV vs) : ∃ k t a : Int32, vs[0]? = some k ∧ vs[1]? = some t ∧ vs[2]? = some a ∧ vp_in k 4 ∧ ∃ n : Nat, 1 ≤ n ∧ n ≤ 3 ∧ t = nI n := by
  obtain ⟨k, t, a, rfl, h1, h2⟩ := h
  exact ⟨k, t, a, rfl, rfl, rfl, (yin_c (n := 3) rfl (by omega)).mp h1, (yin_1 (n := 3) rfl (by omega)).mp h2⟩
theorem ylawok_low {w w' : Nat → Int32} {k : Nat} (hk : k ≤ 1) (h0 : w' (100 + k) = w (100 + k)) (h : ∀ j, 266 ≤ j → w' j = w j) (q : ylawok w k) : ylawok w' k := by
  obtain ⟨q1, q2⟩ := q
  have hl := (zvp_clamp q1 (by decide)).2
  refine ⟨by rw [h0]; exact q1, fun i hi => ?_⟩
  rw [h0] at hi
  obtain ⟨f, c1, c2, e1, e2, e3, hle, g1, g2⟩ := q2 i hi
  refine ⟨f, c1, c2, by rw [h _ (by omega)]; exact e1, by rw [h _ (by omega)]; exact e2, by rw [h _ (by omega)]; exact e3, hle, ?_, ?_⟩
  · rw [ysteps_c c2 (f + c1) (fun x _ => h _ (by omega))]; exact g1
  · rw [ysteps_c c1 f (fun x _ => h _ (by omega))]; exact g2
theorem yhullw_all {w : Nat → Int32} {v : zM} {R : List (List Int32)} (h : yrowed 3 v R) (hl : R.length ≤ 8) (hV : ∀ (i : Nat) (vs : List Int32), R[i]? = some vs → yWorkV vs) (q : ywf w) (qc : ycouples w) (qk : ykinds w) : ywf (yhullw w (v.2 7) R.length) ∧ yhull (yhullw w (v.2 7) R.length) ∧ ycouples (yhullw w (v.2 7) R.length) ∧ ykinds (yhullw w (v.2 7) R.length) := by
  have hIs := yhullIs_of (w := w) h hl hV
  have ho := fun j => yhullw_o (w := w) (f := v.2 7) (r := R.length) (j := j) hl
  have h99 : yhullw w (v.2 7) R.length 99 = 0 := by unfold yhullw; rw [if_neg (by omega), if_neg (by omega), if_neg (by omega), if_pos rfl]
  have h104 : yhullw w (v.2 7) R.length 104 = 0 := by unfold yhullw; rw [if_neg (by omega), if_neg (by omega), if_neg (by omega), if_neg (by omega), if_pos rfl]
  have hd : ∀ i, i < 8 → yhullw w (v.2 7) R.length (8 + i) = 0 := fun i hi => by unfold yhullw; rw [if_pos (by omega)]
  generalize yhullw w (v.2 7) R.length = w' at hIs ho h99 h104 hd
  obtain ⟨i1, i2, i3⟩ := hIs
  obtain ⟨a, b, c, d, e1, e2, e3, e4, e5, e6⟩ := q
  have hcl : (w' 98).toNatClampNeg = R.length := by rw [i1, nI_clamp (by omega)]
  refine ⟨⟨?_, ?_, fun l hl2 => ?_, fun T hT => ?_, ?_, ?_, ?_, ?_, ?_, ?_⟩, fun i hi => ?_, fun k hk => ?_, fun t ht => ?_, fun i hi => ?_⟩
  · exact ylawok_low (by omega) (ho _ (by omega)) (fun j hj => ho j (by omega)) a
  · exact ylawok_low (by omega) (ho _ (by omega)) (fun j hj => ho j (by omega)) b
  · obtain ⟨f1, f2, f3⟩ := c l hl2
    exact ⟨by rw [ho _ (by omega)]; exact f1, by rw [ho _ (by omega)]; exact f2, by rw [ho _ (by omega)]; exact f3⟩
  · rw [ho _ (by omega)]; exact d T hT
  · rw [ho _ (by omega)]; exact e1
  · rw [ho _ (by omega)]; exact e2
  · rw [i1]; exact vp_in_nI (by omega) (by decide)
  · rw [h99]; exact vp_in_nI (n := 0) (by omega) (by decide)
  · rw [h104]; exact vp_in_nI (n := 0) (by omega) (by decide)
  · rw [ho _ (by omega)]; exact e6
  · by_cases hiR : i < R.length
    · obtain ⟨g1, g2⟩ := i3 i R[i] (List.getElem?_eq_getElem hiR)
      obtain ⟨k, t, a, x1, x2, x3, x4, n, n1, n2, rfl⟩ := g1.k
      exact ⟨0, n, hd i hi, fun _ => ⟨g2 1 _ x2, Nat.zero_le _, n2⟩⟩
    · exact ⟨0, 0, hd i hi, fun z => by rw [hcl] at z; exact absurd z hiR⟩
  · obtain ⟨g1, g2⟩ := qc k hk
    exact ⟨by rw [ho _ (by omega)]; exact g1, by rw [ho _ (by omega)]; exact g2⟩
  · have hN := (zvp_clamp e1 (by decide)).2
    rw [ho 96 (by omega)] at ht
    rw [ho _ (by omega)]
    exact qk.1 t ht
  · rw [hcl] at hi
    obtain ⟨g1, g2⟩ := i3 i R[i] (List.getElem?_eq_getElem hi)
    obtain ⟨k, t, a, x1, x2, x3, x4, -⟩ := g1.k
    have := g2 0 _ x1
    rw [Nat.add_zero] at this
    rw [this]
    exact x4
/-- the rota of the row is R -/
def yrotaIs (w : Nat → Int32) (R : List (List Int32)) : Prop := w 99 = nI R.length ∧ R.length ≤ 20 ∧ ∀ (i : Nat) (vs : List Int32), R[i]? = some vs → vs.length = 5 ∧ ∀ j v, vs[j]? = some v → w (166 + 5 * i + j) = v
theorem yrotaIs_of {w : Nat → Int32} {v : zM} {R : List (List Int32)} (h : yrowed 5 v R) (hl : R.length ≤ 20) : yrotaIs (yrotaw w (v.2 7) R.length) R := by
  refine ⟨?_, hl, fun i vs hi => ⟨(h.2 i vs hi).1, fun j x hj => ?_⟩⟩
  · unfold yrotaw
    rw [if_neg (by omega), if_pos rfl]
  · obtain ⟨h1, h2⟩ := h.2 i vs hi
    have hi2 := (List.getElem?_eq_some_iff.mp hi).1
    have hj2 := (List.getElem?_eq_some_iff.mp hj).1
    unfold yrotaw
    rw [if_pos (by omega), show 166 + 5 * i + j - 166 = 5 * i + j by omega]
    exact h2 j x hj
theorem yrotaw_o {w f : Nat → Int32} {r j : Nat} (hr : r ≤ 20) (h : (j < 166 ∨ 266 ≤ j) ∧ j ≠ 99) : yrotaw w f r j = w j := by
  unfold yrotaw
  rw [if_neg (by omega), if_neg (by omega)]
theorem yrotaw_all {w : Nat → Int32} {v : zM} {R : List (List Int32)} (h : yrowed 5 v R) (hl : R.length ≤ 20) (hV : ∀ (i : Nat) (vs : List Int32), R[i]? = some vs → yRotaV (w 96) (w 97) (w 98) vs) (q : ywf w) (qh : yhull w) (qc : ycouples w) (qk : ykinds w) : ywf (yrotaw w (v.2 7) R.length) ∧ yhull (yrotaw w (v.2 7) R.length) ∧ ycouples (yrotaw w (v.2 7) R.length) ∧ ykinds (yrotaw w (v.2 7) R.length) := by
  have hIs := yrotaIs_of (w := w) h hl
  have ho := fun j => yrotaw_o (w := w) (f := v.2 7) (r := R.length) (j := j) hl
  have hold : ∀ l, R.length ≤ l → l < 20 → ∀ x, x < 5 → yrotaw w (v.2 7) R.length (166 + 5 * l + x) = w (166 + 5 * l + x) := fun l h1 h2 x hx => by
    unfold yrotaw
    rw [if_neg (by omega), if_neg (by omega)]
  generalize yrotaw w (v.2 7) R.length = w' at hIs ho hold
  obtain ⟨i1, i2, i3⟩ := hIs
  obtain ⟨a, b, c, d, e1, e2, e3, e4, e5, e6⟩ := q
  obtain ⟨N, hN, eN⟩ := vp_in_of e1 (by decide)
  obtain ⟨M, hM, eM⟩ := vp_in_of e2 (by decide)
  obtain ⟨W, hW, eW⟩ := vp_in_of e3 (by decide)
  have w98 : w' 98 = w 98 := ho _ (by omega)
  refine ⟨⟨?_, ?_, fun l hl2 => ?_, fun T hT => ?_, ?_, ?_, ?_, ?_, ?_, ?_⟩, fun i hi => ?_, fun k hk => ?_, fun t ht => ?_, fun i hi => ?_⟩
  · exact ylawok_low (by omega) (ho _ (by omega)) (fun j hj => ho j (by omega)) a
  · exact ylawok_low (by omega) (ho _ (by omega)) (fun j hj => ho j (by omega)) b
  · by_cases z : l < R.length
    · obtain ⟨g1, g2⟩ := i3 l R[l] (List.getElem?_eq_getElem z)
      obtain ⟨v0, v1, v2, v3, v4, ev, r0, r1, r2, -, -⟩ := hV l R[l] (List.getElem?_eq_getElem z)
      have y0 := g2 0 v0 (by rw [ev]; rfl)
      have y1 := g2 1 v1 (by rw [ev]; rfl)
      have y2 := g2 2 v2 (by rw [ev]; rfl)
      rw [Nat.add_zero] at y0
      rw [eN] at r0
      rw [eM] at r1
      rw [eW] at r2
      obtain ⟨t0, ht0, et0⟩ := vp_in_of ((yin_vp (N := N) (by omega)).mp r0) (by omega)
      obtain ⟨t1, ht1, et1⟩ := vp_in_of ((yin_vp (N := M) (by omega)).mp r1) (by omega)
      obtain ⟨t2, ht2, et2⟩ := vp_in_of ((yin_vp (N := W) (by omega)).mp r2) (by omega)
      exact ⟨by rw [y0, et0]; exact vp_in_nI (by omega) (by decide), by rw [y1, et1]; exact vp_in_nI (by omega) (by decide), by rw [y2, et2]; exact vp_in_nI (by omega) (by decide)⟩
    · obtain ⟨f1, f2, f3⟩ := c l hl2
      have y0 := hold l (by omega) hl2 0 (by omega)
      rw [Nat.add_zero] at y0
      exact ⟨by rw [y0]; exact f1, by rw [hold l (by omega) hl2 1 (by omega)]; exact f2, by rw [hold l (by omega) hl2 2 (by omega)]; exact f3⟩
  · rw [ho _ (by omega)]; exact d T hT
  · rw [ho _ (by omega)]; exact e1
  · rw [ho _ (by omega)]; exact e2
  · rw [ho _ (by omega)]; exact e3
  · rw [i1]; exact vp_in_nI (by omega) (by decide)
  · rw [ho _ (by omega)]; exact e5
  · rw [ho _ (by omega)]; exact e6
  · obtain ⟨x, k, h1, h2⟩ := qh i hi
    refine ⟨x, k, by rw [ho _ (by omega)]; exact h1, fun z => ?_⟩
    rw [w98] at z
    have hw8 : (w 98).toNatClampNeg ≤ 8 := by rw [eW, nI_clamp (by omega)]; omega
    obtain ⟨g1, g2⟩ := h2 z
    exact ⟨by rw [ho _ (by omega)]; exact g1, g2⟩
  · obtain ⟨g1, g2⟩ := qc k hk
    exact ⟨by rw [ho _ (by omega)]; exact g1, by rw [ho _ (by omega)]; exact g2⟩
  · rw [ho 96 (by omega)] at ht
    have : (w 96).toNatClampNeg ≤ 8 := by rw [eN, nI_clamp (by omega)]; omega
    rw [ho _ (by omega)]
    exact qk.1 t ht
  · rw [w98] at hi
    have : (w 98).toNatClampNeg ≤ 8 := by rw [eW, nI_clamp (by omega)]; omega
    rw [ho _ (by omega)]
    exact qk.2 i hi
