/-! plain laws: what the grammar gives is code -/
theorem ycode_up : ∀ h c, ycode h c → ycode (h + 1) c
  | 0, _, q => q.elim
  | h + 1, c, q => by
    unfold ycode at q
    unfold ycode
    rcases q with q | q | ⟨c1, q1, e⟩ | ⟨c1, v, q0, q1, e⟩ | ⟨c1, c2, o, q0, q1, q2, e⟩
    · exact Or.inl q
    · exact Or.inr (Or.inl q)
    · exact Or.inr (Or.inr (Or.inl ⟨c1, ycode_up h c1 q1, e⟩))
    · exact Or.inr (Or.inr (Or.inr (Or.inl ⟨c1, v, q0, ycode_up h c1 q1, e⟩)))
    · exact Or.inr (Or.inr (Or.inr (Or.inr ⟨c1, c2, o, q0, ycode_up h c1 q1, ycode_up h c2 q2, e⟩)))
theorem ycode_le {h c} : ∀ d, ycode h c → ycode (h + d) c
  | 0, q => q
  | d + 1, q => ycode_up _ _ (ycode_le d q)
/-- some code -/
def yC (c : List (Int32 × Int32)) : Prop := ∃ h, ycode h c
theorem yC.num {v : Int32} : yC [(0, v)] := ⟨1, Or.inl ⟨v, rfl⟩⟩
theorem yC.name {k : Nat} {v : Int32} (h1 : 1 ≤ k) (h2 : k ≤ 10) : yC [(nI k, v)] := ⟨1, Or.inr (Or.inl ⟨k, v, h1, h2, rfl⟩)⟩
theorem yC.no {c : List (Int32 × Int32)} (h : yC c) : yC (c ++ [(30, 0)]) := by
  obtain ⟨n, h⟩ := h
  exact ⟨n + 1, Or.inr (Or.inr (Or.inl ⟨c, h, rfl⟩))⟩
theorem yC.part {c : List (Int32 × Int32)} {v : Int32} (h : yC c) (hv : ¬ v = 0) : yC (c ++ [(26, v)]) := by
  obtain ⟨n, h⟩ := h
  exact ⟨n + 1, Or.inr (Or.inr (Or.inr (Or.inl ⟨c, v, hv, h, rfl⟩)))⟩
theorem yC.two {c c2 : List (Int32 × Int32)} {o : Int32} (h : yC c) (g : yC c2) (ho : yopc o = true) : yC (c ++ (c2 ++ [(o, 0)])) := by
  obtain ⟨n, h⟩ := h
  obtain ⟨m, g⟩ := g
  refine ⟨n + m + 1, Or.inr (Or.inr (Or.inr (Or.inr ⟨c, c2, o, ho, ycode_le m h, ?_, rfl⟩)))⟩
  rw [Nat.add_comm]
  exact ycode_le n g
/-- a part of the grammar gives code -/
def yCR (r : yRes) : Prop := ∀ c q, r = .inr (c, q) → yC c
theorem yUnit_C {tp : Nat → Int32} {n : Nat} {rd : Int32} {p : Nat} : yCR (yUnit tp n rd p) := fun c q h => by
  unfold yUnit at h
  split at h
  · cases h
    exact yC.num
  · split at h
    · rename_i k
      obtain ⟨z, z1, z2, ez⟩ := (yin_ab (a := 41) (b := 50) rfl rfl (by omega) (by omega)).mp k
      cases h
      rw [ez, nI_sl (show (40 : Nat) ≤ z by omega)]
      exact yC.name (by show 1 ≤ z - 40; omega) (by show z - 40 ≤ 10; omega)
    · cases h
theorem yProdL_C {tp : Nat → Int32} {n : Nat} {rd : Int32} : ∀ f p c0 c q, yC c0 → yProdL tp n rd f p = .inr (c, q) → yC (c0 ++ c)
  | 0, p, c0, c, q, h0, h => by
    cases h
    rw [List.append_nil]; exact h0
  | f + 1, p, c0, c, q, h0, h => by
    unfold yProdL at h
    split at h
    · obtain ⟨c1, q1, e1, h⟩ := ybind_inr h
      obtain ⟨c2, q2, e2, h⟩ := ybind_inr h
      cases h
      have := yProdL_C f q1 (c0 ++ (c1 ++ [(25, 0)])) c2 q (h0.two (yUnit_C c1 q1 e1) (by decide)) e2
      simpa [List.append_assoc] using this
    · split at h
      · split at h
        · split at h
          · cases h
          · rename_i hv
            obtain ⟨c2, q2, e2, h⟩ := ybind_inr h
            cases h
            have := yProdL_C f _ (c0 ++ [(26, ytval tp n (yX tp n p))]) c2 q (h0.part hv) e2
            simpa [List.append_assoc] using this
        · cases h
      · cases h
        rw [List.append_nil]; exact h0
theorem yProd_C {tp : Nat → Int32} {n : Nat} {rd : Int32} {p : Nat} : yCR (yProd tp n rd p) := fun c q h => by
  obtain ⟨c1, q1, e1, h⟩ := ybind_inr h
  obtain ⟨c2, q2, e2, h⟩ := ybind_inr h
  cases h
  exact yProdL_C _ _ _ _ _ (yUnit_C c1 q1 e1) e2
theorem yLoop_C {tp : Nat → Int32} {n : Nat} {rd : Int32} {o : Int32 → Option Int32} {sub : Nat → yRes} (ho : ∀ k h, o k = some h → yopc h = true) (hs : ∀ p, yCR (sub p)) : ∀ f p c0 c q, yC c0 → yLoop tp n rd o sub f p = .inr (c, q) → yC (c0 ++ c)
  | 0, p, c0, c, q, h0, h => by
    cases h
    rw [List.append_nil]; exact h0
  | f + 1, p, c0, c, q, h0, h => by
    unfold yLoop at h
    split at h
    · cases h
      rw [List.append_nil]; exact h0
    · rename_i z ez
      obtain ⟨c1, q1, e1, h⟩ := ybind_inr h
      obtain ⟨c2, q2, e2, h⟩ := ybind_inr h
      cases h
      have := yLoop_C ho hs f q1 (c0 ++ (c1 ++ [(z, 0)])) c2 q (h0.two (hs _ c1 q1 e1) (ho _ _ ez)) e2
      simpa [List.append_assoc] using this
theorem yChain_C {tp : Nat → Int32} {n : Nat} {rd : Int32} {o : Int32 → Option Int32} {sub : Nat → yRes} (ho : ∀ k h, o k = some h → yopc h = true) (hs : ∀ p, yCR (sub p)) {p : Nat} : yCR (yChain tp n rd o sub p) := fun c q h => by
  obtain ⟨c1, q1, e1, h⟩ := ybind_inr h
  obtain ⟨c2, q2, e2, h⟩ := ybind_inr h
  cases h
  exact yLoop_C ho hs _ _ _ _ _ (hs p c1 q1 e1) e2
theorem yoS_op : ∀ k h, yoS k = some h → yopc h = true := by
  intro k h e
  unfold yoS at e
  split at e
  · cases e; decide
  · split at e
    · cases e; decide
    · cases e
theorem yoA_op : ∀ k h, yoA k = some h → yopc h = true := by
  intro k h e
  unfold yoA at e
  split at e
  · cases e; decide
  · cases e
theorem yoO_op : ∀ k h, yoO k = some h → yopc h = true := by
  intro k h e
  unfold yoO at e
  split at e
  · cases e; decide
  · cases e
theorem ySum_C {tp : Nat → Int32} {n : Nat} {rd : Int32} {p : Nat} : yCR (ySum tp n rd p) := yChain_C yoS_op (fun _ => yProd_C)
theorem yhow_op {k : Int32} (h : ¬ yhow k = -1) : yopc (yhow k) = true := by
  unfold yhow at *
  split
  · decide
  · split
    · decide
    · split
      · decide
      · rename_i a b c
        rw [if_neg a, if_neg b, if_neg c] at h
        exact absurd rfl h
theorem yCmp_C {tp : Nat → Int32} {n : Nat} {rd : Int32} {p : Nat} : yCR (yCmp tp n rd p) := fun c q h => by
  obtain ⟨c1, q1, e1, h⟩ := ybind_inr h
  split at h
  · cases h
  · rename_i hk
    obtain ⟨c2, q2, e2, h⟩ := ybind_inr h
    cases h
    exact (ySum_C c1 q1 e1).two (ySum_C c2 _ e2) (yhow_op hk)
theorem yEvery_C {tp : Nat → Int32} {n : Nat} {rd : Int32} {sub : Nat → yRes} (hs : ∀ p, yCR (sub p)) {p : Nat} : yCR (yEvery tp n rd sub p) := yChain_C yoA_op hs
theorem yAny_C {tp : Nat → Int32} {n : Nat} {rd : Int32} {sub : Nat → yRes} (hs : ∀ p, yCR (sub p)) {p : Nat} : yCR (yAny tp n rd sub p) := yChain_C yoO_op (fun _ => yEvery_C hs)
theorem yTest_C {tp : Nat → Int32} {n : Nat} {rd : Int32} : ∀ r p, yCR (yTest tp n rd r p)
  | 0, p => fun c q h => by
    unfold yTest at h
    split at h
    · cases h
    · exact yCmp_C c q h
  | r + 1, p => fun c q h => by
    unfold yTest at h
    split at h
    · obtain ⟨c1, q1, e1, h⟩ := ybind_inr h
      cases h
      exact (yTest_C r _ c1 _ e1).no
    · split at h
      · obtain ⟨c1, q1, e1, h⟩ := ybind_inr h
        split at h
        · cases h
          exact yAny_C (yTest_C r) _ q1 e1
        · cases h
      · exact yCmp_C c q h
/-- a line of a law is well formed -/
def yLnok (rd : Int32) (ln : yLn) : Prop := (ln.2.2 = [] ∨ yC ln.2.2) ∧ (rd = 1 → yC ln.2.1)
theorem yLine_C {tp : Nat → Int32} {n : Nat} {rd : Int32} {l p : Nat} {ln : yLn} {q : Nat} (h : yLine tp n rd l p = .inr (ln, q)) : yLnok rd ln ∧ yin ln.1 20 24 = true := by
  unfold yLine at h
  split at h
  · cases h
  · rename_i c
    split at h
    · cases h
    · split at h
      · cases h
      · rename_i c1 q1 e1
        split at h
        · cases h
        · rename_i c2 q2 e2
          split at h
          · cases h
            refine ⟨⟨?_, fun hr => ?_⟩, by simpa using c⟩
            · split at e2
              · exact Or.inr (yAny_C (yTest_C 8) _ _ e2)
              · cases e2; exact Or.inl rfl
            · rw [if_pos hr] at e1
              exact ySum_C _ _ e1
          · cases h
theorem yLaw_C {tp : Nat → Int32} {n : Nat} {rd : Int32} : ∀ (f l p : Nat) (L : List yLn), yLaw tp n rd f l p = .inr L → ∀ (i : Nat) (ln : yLn), L[i]? = some ln → yLnok rd ln ∧ yin ln.1 20 24 = true
  | 0, l, p, L, h, i, ln, hi => by cases h; cases hi
  | f + 1, l, p, L, h, i, ln, hi => by
    unfold yLaw at h
    split at h
    · cases h; cases hi
    · split at h
      · cases h
      · rename_i x q e
        split at h
        · cases h
        · rename_i M e2
          cases h
          cases i with
          | zero => cases hi; exact yLine_C e
          | succ i => exact yLaw_C f (l + 1) q M e2 i ln hi
