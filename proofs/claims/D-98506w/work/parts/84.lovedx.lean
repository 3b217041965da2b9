/-! plain laws: no more works than tools, than men; who is loved; orders -/
theorem ygoes_ct {w srv : Nat → Int32} {kd : Int32} {N M s x : Nat} (hN : N ≤ 8) (h : ygoes w srv kd N M s x) : ynf (fun t => if x.testBit t = true then 1 else 0) N = ynf (fun t => if s.testBit t = true then 1 else 0) N + 1 ∧ ynf (fun m => if x.testBit (8 + m) = true then 1 else 0) M = ynf (fun m => if s.testBit (8 + m) = true then 1 else 0) M + 1 := by
  obtain ⟨t, m, ht, hm2, h1, -, h2, -, rfl⟩ := h
  constructor
  · refine ynf_up (k := t) N ht (fun i hi hne => ?_) ?_
    · rw [Nat.testBit_or, Nat.testBit_or, Nat.testBit_two_pow_of_ne (by omega), Nat.testBit_two_pow_of_ne (by omega), Bool.or_false, Bool.or_false]
    · rw [Nat.testBit_or, Nat.testBit_or, Nat.testBit_two_pow_self, h1]
      simp
  · refine ynf_up (k := m) M hm2 (fun i hi hne => ?_) ?_
    · rw [Nat.testBit_or, Nat.testBit_or, Nat.testBit_two_pow_of_ne (by omega), Nat.testBit_two_pow_of_ne (by omega), Bool.or_false, Bool.or_false]
    · rw [Nat.testBit_or, Nat.testBit_or, Nat.testBit_two_pow_self, h2]
      simp
theorem ytogF_ct {w srv : Nat → Int32} {N M set : Nat} (hN : N ≤ 8) : ∀ i x, ytogF w srv N M set i x → ynf (fun t => if x.testBit t = true then 1 else 0) N = ynf (fun j => if set.testBit j = true then 1 else 0) i ∧ ynf (fun m => if x.testBit (8 + m) = true then 1 else 0) M = ynf (fun j => if set.testBit j = true then 1 else 0) i
  | 0, x, h => by
    have : x = 0 := h
    subst this
    exact ⟨ynf_0 N (fun i _ => by rw [Nat.zero_testBit]; rfl), ynf_0 M (fun i _ => by rw [Nat.zero_testBit]; rfl)⟩
  | i + 1, x, h => by
    have e : ynf (fun j => if set.testBit j = true then 1 else 0) (i + 1) = ynf (fun j => if set.testBit j = true then 1 else 0) i + (if set.testBit i = true then 1 else 0) := rfl
    rw [e]
    unfold ytogF at h
    by_cases c : set.testBit i = true
    · rw [if_pos c] at h
      obtain ⟨s, -, h2, h3⟩ := h
      have ih := ytogF_ct hN i s h2
      have hs := ygoes_ct hN h3
      rw [if_pos c]
      omega
    · rw [if_neg c] at h
      have ih := ytogF_ct hN i x h
      rw [if_neg c]
      omega
theorem ynf_more {f : Nat → Nat} {n : Nat} : ∀ d, (∀ i, n ≤ i → f i = 0) → ynf f (n + d) = ynf f n
  | 0, _ => rfl
  | d + 1, h => by
    have := ynf_more d h
    show ynf f (n + d) + f (n + d) = ynf f n
    rw [this, h _ (by omega)]
    rfl
theorem ytog_ones {w srv : Nat → Int32} {N M W set : Nat} (hN : N ≤ 8) (hW : W ≤ 8) (hs : set < 2 ^ W) (h : ytog w srv N M W set = true) : yones set ≤ N ∧ yones set ≤ M := by
  unfold ytog at h
  rw [ydc_iff] at h
  obtain ⟨x, hx⟩ := h
  obtain ⟨h1, h2⟩ := ytogF_ct hN W x hx
  have e : yones set = ynf (fun j => if set.testBit j = true then 1 else 0) W := by
    unfold yones
    have := ynf_more (f := fun j => if set.testBit j = true then 1 else 0) (n := W) (8 - W) (fun i hi => by
      rw [Nat.testBit_lt_two_pow (Nat.lt_of_lt_of_le hs (Nat.pow_le_pow_right (show 0 < 2 by omega) hi))]
      rfl)
    rw [show W + (8 - W) = 8 by omega] at this
    exact this
  have b1 := ynf_bound (f := fun t => if x.testBit t = true then 1 else 0) (b := 1) N (fun i hi => by split <;> omega)
  have b2 := ynf_bound (f := fun m => if x.testBit (8 + m) = true then 1 else 0) (b := 1) M (fun i hi => by split <;> omega)
  omega
theorem ytog_gX {w srv : Nat → Int32} {N M W set : Nat} (hN : N ≤ 8) (hM : M ≤ 4) (hW : W ≤ 8) (hs : set < 2 ^ W) : ytog w srv N M W set = (decide (yones set ≤ N) && decide (yones set ≤ M) && ygX w srv N M 9 set 0) := by
  have h1 := yones_le (S := set)
  have h2 := ygX_iff (w := w) (srv := srv) (N := N) (M := M) hW 9 set 0 hs (by omega)
  rw [Bool.eq_iff_iff, Bool.and_eq_true, Bool.and_eq_true, decide_eq_true_eq, decide_eq_true_eq, h2, ← ytog_go hN hM]
  exact ⟨fun h => ⟨ytog_ones hN hW hs h, h⟩, fun h => h.2⟩
/-- who is loved by most men, by counts alone -/
def ylovedX (w ask : Nat → Int32) (n : Nat) : Int32 := yfold (fun t b => if 0 < ylovers w ask (nI t) ∧ (b = -1 ∨ ylovers w ask b < ylovers w ask (nI t)) then nI t else b) (-1) n
theorem ylt_tr {a b c : Int32} (h : a < b) (g : b < c) : a < c := by
  rw [Int32.lt_iff_toInt_lt] at *
  omega
theorem yloved_eq {w ask : Nat → Int32} : ∀ n, n ≤ 8 → (yloved w ask n).1 = ylovedX w ask n ∧ ((ylovedX w ask n = -1 ∧ (yloved w ask n).2 = 0) ∨ (¬ ylovedX w ask n = -1 ∧ (yloved w ask n).2 = ylovers w ask (ylovedX w ask n) ∧ 0 < (yloved w ask n).2))
  | 0, _ => ⟨rfl, Or.inl ⟨rfl, rfl⟩⟩
  | n + 1, hn => by
    obtain ⟨h1, h2⟩ := yloved_eq (w := w) (ask := ask) n (by omega)
    have e : ylovedX w ask (n + 1) = if 0 < ylovers w ask (nI n) ∧ (ylovedX w ask n = -1 ∨ ylovers w ask (ylovedX w ask n) < ylovers w ask (nI n)) then nI n else ylovedX w ask n := rfl
    have hne : ¬ nI n = -1 := nI_m1 (by omega)
    rw [e]
    unfold yloved
    rcases h2 with ⟨a1, a2⟩ | ⟨a1, a2, a3⟩
    · rw [a2]
      by_cases c : 0 < ylovers w ask (nI n)
      · rw [if_pos c, if_pos ⟨c, Or.inl a1⟩]
        exact ⟨rfl, Or.inr ⟨hne, rfl, c⟩⟩
      · rw [if_neg c, if_neg (fun q => c q.1)]
        exact ⟨h1, Or.inl ⟨a1, a2⟩⟩
    · rw [a2] at a3 ⊢
      by_cases c : ylovers w ask (ylovedX w ask n) < ylovers w ask (nI n)
      · rw [if_pos c, if_pos ⟨ylt_tr a3 c, Or.inr c⟩]
        exact ⟨rfl, Or.inr ⟨hne, rfl, ylt_tr a3 c⟩⟩
      · rw [if_neg c, if_neg (by
          rintro ⟨-, q | q⟩
          · exact a1 q
          · exact c q)]
        exact ⟨h1, Or.inr ⟨a1, a2, by rw [a2]; exact a3⟩⟩
/-- whether a work can be next, by the couples alone -/
def ycanX (w : Nat → Int32) (C i set : Nat) : Bool := !set.testBit i && decide (w (142 + 3 * i + 2) &&& (nI set ^^^ (-1)) = 0) && yall (fun k => !(decide (w (105 + 2 * k + 1) = nI i) && !ybit (nI set) (w (105 + 2 * k)))) C
theorem yand_or {a b c : Int32} : ((a ||| b) &&& c = 0) ↔ (a &&& c = 0 ∧ b &&& c = 0) := by
  rw [← Int32.toBitVec_inj, ← Int32.toBitVec_inj, ← Int32.toBitVec_inj, Int32.toBitVec_and, Int32.toBitVec_and, Int32.toBitVec_and, Int32.toBitVec_or]
  show _ = 0#32 ↔ _ = 0#32 ∧ _ = 0#32
  constructor
  · intro h
    have g : ∀ i, ((a.toBitVec ||| b.toBitVec) &&& c.toBitVec).getLsbD i = false := fun i => by rw [h, BitVec.getLsbD_zero]
    constructor
    · apply BitVec.eq_of_getLsbD_eq
      intro i hi
      have := g i
      rw [BitVec.getLsbD_and, BitVec.getLsbD_or] at this
      rw [BitVec.getLsbD_and, BitVec.getLsbD_zero]
      revert this
      cases a.toBitVec.getLsbD i <;> cases b.toBitVec.getLsbD i <;> cases c.toBitVec.getLsbD i <;> decide
    · apply BitVec.eq_of_getLsbD_eq
      intro i hi
      have := g i
      rw [BitVec.getLsbD_and, BitVec.getLsbD_or] at this
      rw [BitVec.getLsbD_and, BitVec.getLsbD_zero]
      revert this
      cases a.toBitVec.getLsbD i <;> cases b.toBitVec.getLsbD i <;> cases c.toBitVec.getLsbD i <;> decide
  · rintro ⟨h1, h2⟩
    apply BitVec.eq_of_getLsbD_eq
    intro i hi
    have g1 : (a.toBitVec &&& c.toBitVec).getLsbD i = false := by rw [h1, BitVec.getLsbD_zero]
    have g2 : (b.toBitVec &&& c.toBitVec).getLsbD i = false := by rw [h2, BitVec.getLsbD_zero]
    rw [BitVec.getLsbD_and] at g1 g2
    rw [BitVec.getLsbD_and, BitVec.getLsbD_or, BitVec.getLsbD_zero]
    revert g1 g2
    cases a.toBitVec.getLsbD i <;> cases b.toBitVec.getLsbD i <;> cases c.toBitVec.getLsbD i <;> decide
theorem yshl_and {k set : Nat} (hk : k < 32) : ((1 : Int32) <<< (nI k &&& 31) &&& (nI set ^^^ (-1)) = 0) ↔ set.testBit k = true := by
  have e : (1 : Int32) <<< (nI k &&& 31) = yshl k := rfl
  rw [e, ← Int32.toBitVec_inj, Int32.toBitVec_and, Int32.toBitVec_xor, yshl_lsb k hk]
  show _ = 0#32 ↔ _
  have g : ∀ i, i < 32 → (BitVec.twoPow 32 k &&& ((nI set).toBitVec ^^^ (-1 : Int32).toBitVec)).getLsbD i = (decide (k = i) && !set.testBit i) := by
    intro i hi
    rw [BitVec.getLsbD_and, BitVec.getLsbD_xor, nI_lsb set i hi, BitVec.getLsbD_twoPow]
    rw [show (-1 : Int32).toBitVec = BitVec.allOnes 32 from rfl, BitVec.getLsbD_allOnes]
    simp [hi, hk]
  constructor
  · intro h
    have := g k hk
    rw [h, BitVec.getLsbD_zero] at this
    cases c : set.testBit k
    · rw [c] at this; simp at this
    · rfl
  · intro h
    apply BitVec.eq_of_getLsbD_eq
    intro i hi
    rw [g i hi, BitVec.getLsbD_zero]
    by_cases c : k = i
    · subst c; rw [h]; simp
    · simp [c]
theorem yahead_and {w a0 : Nat → Int32} (hc : ycouples w) {i set : Nat} (hi : i < (w 98).toNatClampNeg) : ∀ C, C ≤ 12 → ((yahead w a0 C i &&& (nI set ^^^ (-1)) = 0) ↔ (w (142 + 3 * i + 2) &&& (nI set ^^^ (-1)) = 0 ∧ ∀ k, k < C → w (105 + 2 * k + 1) = nI i → ybit (nI set) (w (105 + 2 * k)) = true))
  | 0, _ => by
    have e : yahead w a0 0 i = w (142 + 3 * i + 2) := if_pos hi
    rw [e]
    exact ⟨fun h => ⟨h, fun k hk => absurd hk (Nat.not_lt_zero _)⟩, fun h => h.1⟩
  | C + 1, hC => by
    have ih := yahead_and (a0 := a0) hc (set := set) hi C (by omega)
    obtain ⟨h1, h2⟩ := hc C (by omega)
    obtain ⟨x, hx, ex⟩ := vp_in_of h1 (by decide)
    obtain ⟨y, hy, ey⟩ := vp_in_of h2 (by decide)
    have e : yahead w a0 (C + 1) i = upd (yahead w a0 C) y (yahead w a0 C y ||| (1 <<< (nI x &&& 31))) i := by
      show upd (yahead w a0 C) (w (105 + 2 * C + 1)).toNatClampNeg _ i = _
      rw [ey, ex, nI_clamp (by omega)]
    rw [e]
    by_cases c : i = y
    · subst c
      rw [upd_s, yand_or, ih, yshl_and (by omega)]
      constructor
      · rintro ⟨⟨g1, g2⟩, g3⟩
        refine ⟨g1, fun k hk hq => ?_⟩
        by_cases d : k = C
        · subst d; rw [ex, ybit_nI (by omega)]; exact g3
        · exact g2 k (by omega) hq
      · rintro ⟨g1, g2⟩
        refine ⟨⟨g1, fun k hk hq => g2 k (by omega) hq⟩, ?_⟩
        have := g2 C (by omega) ey
        rw [ex, ybit_nI (by omega)] at this
        exact this
    · rw [upd_n c, ih]
      constructor
      · rintro ⟨g1, g2⟩
        refine ⟨g1, fun k hk hq => ?_⟩
        by_cases d : k = C
        · subst d
          rw [ey] at hq
          exact absurd ((nI_eq (by omega) (by
            have : i < 2147483648 := by
              have := hi
              by_cases z : i < 2147483648
              · exact z
              · have := Int32.toNatClampNeg_lt (w 98)
                omega
            exact this)).mp hq).symm c
        · exact g2 k (by omega) hq
      · rintro ⟨g1, g2⟩
        exact ⟨g1, fun k hk hq => g2 k (by omega) hq⟩
theorem ycan_eq {w a0 : Nat → Int32} (hc : ycouples w) {i set C : Nat} (hi : i < (w 98).toNatClampNeg) (hi8 : i < 8) (hC : C ≤ 12) : ycan (yahead w a0 C) i set = ycanX w C i set := by
  unfold ycan ycanX
  rw [ybit_nI (by omega), Bool.eq_iff_iff]
  simp only [Bool.and_eq_true, decide_eq_true_eq, yahead_and (a0 := a0) hc (set := set) hi C hC, yall_iff]
  constructor
  · rintro ⟨h1, h2, h3⟩
    refine ⟨⟨h1, h2⟩, fun k hk => ?_⟩
    by_cases c : w (105 + 2 * k + 1) = nI i
    · rw [h3 k hk c]; simp
    · simp [c]
  · rintro ⟨⟨h1, h2⟩, h3⟩
    refine ⟨h1, h2, fun k hk hq => ?_⟩
    have := h3 k hk
    rw [decide_eq_true hq] at this
    cases d : ybit (nI set) (w (105 + 2 * k))
    · rw [d] at this; simp at this
    · rfl
