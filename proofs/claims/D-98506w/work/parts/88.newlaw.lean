/-! plain laws: the row behind a text -/
def ysimL : List (Int32 × Int32) → List (Int32 × Int32) → Prop
  | [], [] => True
  | a :: t, b :: u => ysim1 a b ∧ ysimL t u
  | _, _ => False
theorem ysimL_app : ∀ c1 c2 c, ysimL (c1 ++ c2) c → ∃ d1 d2, c = d1 ++ d2 ∧ ysimL c1 d1 ∧ ysimL c2 d2
  | [], c2, c, h => ⟨[], c, rfl, trivial, h⟩
  | a :: t, c2, [], h => h.elim
  | a :: t, c2, b :: u, h => by
    obtain ⟨h1, h2⟩ := h
    obtain ⟨d1, d2, e, g1, g2⟩ := ysimL_app t c2 u h2
    exact ⟨b :: d1, d2, by rw [e]; rfl, ⟨h1, g1⟩, g2⟩
theorem ysimL_1 {a : Int32 × Int32} : ∀ c, ysimL [a] c → ∃ b, c = [b] ∧ ysim1 a b
  | [], h => h.elim
  | [b], h => ⟨b, rfl, h.1⟩
  | _ :: _ :: _, h => h.2.elim
theorem ysim1_k {a b : Int32 × Int32} (h : ysim1 a b) (hn : yin a.1 1 10 = false) : b = a := by
  obtain ⟨h1, h2⟩ := h
  rw [hn] at h2
  rcases h2 with h2 | h2
  · cases h2
  · exact Prod.ext h1 h2
theorem yopc_no {o : Int32} (h : yopc o = true) : yin o 1 10 = false := by
  unfold yopc at h
  simp only [Bool.or_eq_true, decide_eq_true_eq] at h
  rcases h with ((((((h | h) | h) | h) | h) | h) | h) | h <;> subst h <;> decide
theorem ycode_sim : ∀ h c c', ycode h c → ysimL c c' → ycode h c'
  | 0, _, _, q, _ => q.elim
  | h + 1, c, c', q, hs => by
    unfold ycode at q ⊢
    rcases q with ⟨v, rfl⟩ | ⟨k, v, k1, k2, rfl⟩ | ⟨c1, q1, rfl⟩ | ⟨c1, v, q0, q1, rfl⟩ | ⟨c1, c2, o, q0, q1, q2, rfl⟩
    · obtain ⟨b, rfl, hb⟩ := ysimL_1 _ hs
      rw [ysim1_k hb (by show yin 0 1 10 = false; decide)]
      exact Or.inl ⟨v, rfl⟩
    · obtain ⟨b, rfl, hb⟩ := ysimL_1 _ hs
      refine Or.inr (Or.inl ⟨k, b.2, k1, k2, ?_⟩)
      rw [show b = (b.1, b.2) from rfl, hb.1]
    · obtain ⟨d1, d2, rfl, g1, g2⟩ := ysimL_app _ _ _ hs
      obtain ⟨b, rfl, hb⟩ := ysimL_1 _ g2
      rw [ysim1_k hb (by show yin 30 1 10 = false; decide)]
      exact Or.inr (Or.inr (Or.inl ⟨d1, ycode_sim h c1 d1 q1 g1, rfl⟩))
    · obtain ⟨d1, d2, rfl, g1, g2⟩ := ysimL_app _ _ _ hs
      obtain ⟨b, rfl, hb⟩ := ysimL_1 _ g2
      rw [ysim1_k hb (by show yin 26 1 10 = false; decide)]
      exact Or.inr (Or.inr (Or.inr (Or.inl ⟨d1, v, q0, ycode_sim h c1 d1 q1 g1, rfl⟩)))
    · obtain ⟨d1, d2, rfl, g1, g2⟩ := ysimL_app _ _ _ hs
      obtain ⟨d3, d4, rfl, g3, g4⟩ := ysimL_app _ _ _ g2
      obtain ⟨b, rfl, hb⟩ := ysimL_1 _ g4
      rw [ysim1_k hb (yopc_no q0)]
      exact Or.inr (Or.inr (Or.inr (Or.inr ⟨d1, d3, o, q0, ycode_sim h c1 d1 q1 g1, ycode_sim h c2 d3 q2 g3, rfl⟩)))
theorem ysimL_steps {w : Nat → Int32} {k : Nat} : ∀ (c : List (Int32 × Int32)) (f : Nat), (∀ j a, c[j]? = some a → ysim1 a (w (394 + 820 * k + 2 * (f + j)), w (394 + 820 * k + 2 * (f + j) + 1))) → ysimL c (ysteps w k f c.length)
  | [], _, _ => trivial
  | a :: t, f, h => by
    show ysim1 a (w (394 + 820 * k + 2 * f), w (394 + 820 * k + 2 * f + 1)) ∧ ysimL t (ysteps w k (f + 1) t.length)
    refine ⟨h 0 a rfl, ysimL_steps t (f + 1) (fun j b hb => ?_)⟩
    have := h (j + 1) b hb
    rw [show f + (j + 1) = f + 1 + j by omega] at this
    exact this
/-- law k of the row is L -/
def ylawIs (w : Nat → Int32) (k : Nat) (L : List yLn) : Prop := w (100 + k) = nI L.length ∧ L.length ≤ 16 ∧ ∀ (i : Nat) (ln : yLn), L[i]? = some ln → ∃ f : Nat, w (266 + 16 * k + i) = nI f ∧ w (298 + 16 * k + i) = nI (f + ln.2.1.length) ∧ w (330 + 16 * k + i) = nI (f + ln.2.1.length + ln.2.2.length) ∧ f + ln.2.1.length + ln.2.2.length ≤ 400 ∧ w (362 + 16 * k + i) = ln.1 ∧ ysimL ln.2.1 (ysteps w k f ln.2.1.length) ∧ ysimL ln.2.2 (ysteps w k (f + ln.2.1.length) ln.2.2.length) ∧ yLnok (nI k) ln ∧ yin ln.1 20 24 = true
theorem ylawIs.ok {w : Nat → Int32} {k : Nat} {L : List yLn} (h : ylawIs w k L) : ylawok w k := by
  obtain ⟨h1, h2, h3⟩ := h
  refine ⟨by rw [h1]; exact vp_in_nI (by omega) (by decide), fun i hi => ?_⟩
  rw [h1, nI_clamp (by omega)] at hi
  obtain ⟨f, e1, e2, e3, hle, e4, s1, s2, ⟨o1, o2⟩, -⟩ := h3 i L[i] (List.getElem?_eq_getElem hi)
  refine ⟨f, _, _, e1, e2, e3, by omega, ?_, fun hk => ?_⟩
  · rcases o1 with o1 | ⟨n, o1⟩
    · left; rw [o1]; rfl
    · right; exact ⟨n, ycode_sim n _ _ o1 s2⟩
  · obtain ⟨n, o⟩ := o2 (by rw [hk]; rfl)
    exact ⟨n, ycode_sim n _ _ o s1⟩
theorem ylaww_o {w f5 f6 : Nat → Int32} {kk l m st j : Nat} (h0 : j ≠ 100 + kk) (h1 : j < 266 + 16 * kk ∨ 266 + 16 * kk + m ≤ j) (h2 : j < 298 + 16 * kk ∨ 298 + 16 * kk + m ≤ j) (h3 : j < 330 + 16 * kk ∨ 330 + 16 * kk + m ≤ j) (h4 : j < 362 + 16 * kk ∨ 362 + 16 * kk + m ≤ j) (h5 : j < 394 + 820 * kk ∨ 394 + 820 * kk + st ≤ j) : ylaww w f5 f6 kk l m st j = w j := by
  unfold ylaww
  rw [if_neg h0, if_neg (by omega), if_neg (by omega), if_neg (by omega), if_neg (by omega), if_neg (by omega)]
theorem ylawIs_of {w : Nat → Int32} {v : zM} {L : List yLn} {kk : Nat} (hkk : kk ≤ 1) (h : ylined v L) (hok : ∀ (i : Nat) (ln : yLn), L[i]? = some ln → yLnok (nI kk) ln ∧ yin ln.1 20 24 = true) : ylawIs (ylaww w (v.2 5) (v.2 6) kk L.length L.length (2 * ytot L)) kk L := by
  obtain ⟨a1, a2, a3, a0, a4, a5⟩ := h
  have st : ∀ x, x < 2 * ytot L → ylaww w (v.2 5) (v.2 6) kk L.length L.length (2 * ytot L) (394 + 820 * kk + x) = v.2 6 x := fun x hx => by
    unfold ylaww
    rw [if_neg (by omega), if_neg (by omega), if_neg (by omega), if_neg (by omega), if_neg (by omega), if_pos (by omega), show 394 + 820 * kk + x - (394 + 820 * kk) = x by omega]
  refine ⟨by unfold ylaww; rw [if_pos rfl], a2, fun i ln hi => ?_⟩
  have hl := (List.getElem?_eq_some_iff.mp hi).1
  have hle := yfrom_le hi
  obtain ⟨b1, b2, b3, b4⟩ := a4 i ln hi
  have c5 := a5 i ln hi
  refine ⟨yfrom L i, ?_, ?_, ?_, by omega, ?_, ysimL_steps _ _ (fun j a ha => ?_), ysimL_steps _ _ (fun j a ha => ?_), (hok i ln hi).1, (hok i ln hi).2⟩
  · unfold ylaww
    rw [if_neg (by omega), if_pos (by omega), ← b1, show 266 + 16 * kk + i - (266 + 16 * kk) = i by omega]
  · unfold ylaww
    rw [if_neg (by omega), if_neg (by omega), if_pos (by omega), ← b2, show 298 + 16 * kk + i - (298 + 16 * kk) = i by omega]
  · unfold ylaww
    rw [if_neg (by omega), if_neg (by omega), if_neg (by omega), if_pos (by omega), ← b3, show 330 + 16 * kk + i - (330 + 16 * kk) = i by omega]
  · unfold ylaww
    rw [if_neg (by omega), if_neg (by omega), if_neg (by omega), if_neg (by omega), if_pos (by omega), ← b4, show 362 + 16 * kk + i - (362 + 16 * kk) = i by omega]
  · have hj := (List.getElem?_eq_some_iff.mp ha).1
    have := c5 j a (by rw [List.getElem?_append_left hj]; exact ha)
    rw [st _ (by omega), show 394 + 820 * kk + 2 * (yfrom L i + j) + 1 = 394 + 820 * kk + (2 * (yfrom L i + j) + 1) by omega, st _ (by omega)]
    exact this
  · have hj := (List.getElem?_eq_some_iff.mp ha).1
    have := c5 (ln.2.1.length + j) a (by rw [List.getElem?_append_right (by omega), Nat.add_sub_cancel_left]; exact ha)
    rw [show yfrom L i + ln.2.1.length + j = yfrom L i + (ln.2.1.length + j) by omega, st _ (by omega), show 394 + 820 * kk + 2 * (yfrom L i + (ln.2.1.length + j)) + 1 = 394 + 820 * kk + (2 * (yfrom L i + (ln.2.1.length + j)) + 1) by omega, st _ (by omega)]
    exact this
theorem ysteps_c {w w' : Nat → Int32} {k : Nat} : ∀ (n i : Nat), (∀ x, x < 2 * (i + n) → w' (394 + 820 * k + x) = w (394 + 820 * k + x)) → ysteps w' k i n = ysteps w k i n
  | 0, _, _ => rfl
  | n + 1, i, h => by
    rw [ysteps, ysteps, ysteps_c n (i + 1) (fun x hx => h x (by omega)), h _ (by omega)]
    rw [show 394 + 820 * k + 2 * i + 1 = 394 + 820 * k + (2 * i + 1) by omega, h _ (by omega)]
/-- the other law stays -/
theorem ylawok_other {w f5 f6 : Nat → Int32} {kk k l m st : Nat} (hkk : kk ≤ 1) (hk : k ≤ 1) (hne : k ≠ kk) (hm2 : m ≤ 16) (hst : st ≤ 820) (h : ylawok w k) : ylawok (ylaww w f5 f6 kk l m st) k := by
  obtain ⟨h1, h2⟩ := h
  have hl := (zvp_clamp h1 (by decide)).2
  have e0 : ylaww w f5 f6 kk l m st (100 + k) = w (100 + k) := ylaww_o (by omega) (by omega) (by omega) (by omega) (by omega) (by omega)
  refine ⟨by rw [e0]; exact h1, fun i hi => ?_⟩
  rw [e0] at hi
  obtain ⟨f, c1, c2, e1, e2, e3, hle, g1, g2⟩ := h2 i hi
  have est : ∀ x, x < 820 → ylaww w f5 f6 kk l m st (394 + 820 * k + x) = w (394 + 820 * k + x) := fun x hx => ylaww_o (by omega) (by omega) (by omega) (by omega) (by omega) (by omega)
  refine ⟨f, c1, c2, ?_, ?_, ?_, hle, ?_, ?_⟩
  · rw [ylaww_o (by omega) (by omega) (by omega) (by omega) (by omega) (by omega)]; exact e1
  · rw [ylaww_o (by omega) (by omega) (by omega) (by omega) (by omega) (by omega)]; exact e2
  · rw [ylaww_o (by omega) (by omega) (by omega) (by omega) (by omega) (by omega)]; exact e3
  · rw [ysteps_c c2 (f + c1) (fun x hx => est x (by omega))]; exact g1
  · rw [ysteps_c c1 f (fun x hx => est x (by omega))]; exact g2
theorem ywf_law {w : Nat → Int32} {v : zM} {L : List yLn} {kk : Nat} (hkk : kk ≤ 1) (h : ylined v L) (hok : ∀ (i : Nat) (ln : yLn), L[i]? = some ln → yLnok (nI kk) ln ∧ yin ln.1 20 24 = true) (q : ywf w) : ywf (ylaww w (v.2 5) (v.2 6) kk L.length L.length (2 * ytot L)) := by
  have hL := h.2.1
  have ht := h.2.2.2.1
  have hlow : ∀ j, j < 100 ∨ 102 ≤ j ∧ j < 266 → ylaww w (v.2 5) (v.2 6) kk L.length L.length (2 * ytot L) j = w j := fun j hj => ylaww_o (by omega) (by omega) (by omega) (by omega) (by omega) (by omega)
  have hnew := (ylawIs_of (w := w) hkk h hok).ok
  obtain ⟨a, b, c, d, e1, e2, e3, e4, e5, e6⟩ := q
  refine ⟨?_, ?_, fun l hl => ?_, fun T hT => ?_, ?_, ?_, ?_, ?_, ?_, ?_⟩
  · by_cases z : kk = 0
    · subst z; exact hnew
    · exact ylawok_other hkk (by omega) (by omega) hL (by omega) a
  · by_cases z : kk = 1
    · subst z; exact hnew
    · exact ylawok_other hkk (by omega) (by omega) hL (by omega) b
  · obtain ⟨f1, f2, f3⟩ := c l hl
    exact ⟨by rw [hlow _ (by omega)]; exact f1, by rw [hlow _ (by omega)]; exact f2, by rw [hlow _ (by omega)]; exact f3⟩
  · rw [hlow _ (by omega)]; exact d T hT
  · rw [hlow _ (by omega)]; exact e1
  · rw [hlow _ (by omega)]; exact e2
  · rw [hlow _ (by omega)]; exact e3
  · rw [hlow _ (by omega)]; exact e4
  · rw [hlow _ (by omega)]; exact e5
  · rw [hlow _ (by omega)]; exact e6
