/-! hours, thought -/
theorem yk_rust {w : Nat → Int32} : ∀ k, k ≤ 8 → yk w (yrust w k)
  | 0, _ => yk.rf
  | k + 1, hk => by
    have ih := yk_rust (w := w) k (by omega)
    show yk w (yrust1 k (yrust w k))
    unfold yrust1
    split
    · dsimp only
      split
      · exact (ih.upd (by unfold yfix; omega)).upd (by unfold yfix; omega)
      · exact ih.upd (by unfold yfix; omega)
    · exact ih
theorem yk_tail {tr : Int32} {n : Nat} {w : Nat → Int32} (hn : n ≤ 8) : yk w (ytail tr n w) ∧ ytail tr n w 2 = w 2 := by
  have h1 : yk w (if ¬ tr = 0 ∧ 0 < w 102 then yrust w n else w) ∧ (if ¬ tr = 0 ∧ 0 < w 102 then yrust w n else w) 2 = w 2 := by
    split
    · exact ⟨yk_rust n hn, yrust_o (by omega) n hn⟩
    · exact ⟨yk.rf, rfl⟩
  unfold ytail yend
  generalize (if ¬ tr = 0 ∧ 0 < w 102 then yrust w n else w) = W at h1 ⊢
  have h2 : yk w (upd W 0 (W 0 + 1)) := h1.1.upd (by unfold yfix; omega)
  have h3 : upd W 0 (W 0 + 1) 2 = w 2 := by rw [upd_n (by omega)]; exact h1.2
  split
  · exact ⟨h2.tr (yk_clear (Or.inl rfl) hn), by rw [yclear_o (by omega)]; exact h3⟩
  · exact ⟨h2, h3⟩
/-- nothing but w and four numbers moves in an hour -/
def yonly (s m : zM) : Prop := (∀ q, q ≠ 1 → m.2 q = s.2 q) ∧ ∀ j, j ≠ 27 → j ≠ 28 → j ≠ 29 → j ≠ 30 → m.1 j = s.1 j
theorem yonly.rf {s : zM} : yonly s s := ⟨fun _ _ => rfl, fun _ _ _ _ _ => rfl⟩
theorem yonly.tr {s m u : zM} (h : yonly s m) (g : yonly m u) : yonly s u := ⟨fun q hq => (g.1 q hq).trans (h.1 q hq), fun j a b c d => (g.2 j a b c d).trans (h.2 j a b c d)⟩
theorem yonly.B {s m : zM} (h : yonly s m) {f : Nat → Int32} : yonly s (zB m 1 f) := ⟨fun q hq => by rw [zB_2n hq]; exact h.1 q hq, h.2⟩
theorem yonly.F {s m : zM} (h : yonly s m) {j : Nat} {v : Int32} (hj : j = 27 ∨ j = 28 ∨ j = 29 ∨ j = 30) : yonly s (zF m j v) := ⟨h.1, fun i a b c d => by rw [zF_1, if_neg (by omega)]; exact h.2 i a b c d⟩
theorem yrot_only {tr : Int32} {s : zM} : ∀ i, yonly s (yrot tr s i).1
  | 0 => yonly.rf
  | i + 1 => by
    have ih := yrot_only (tr := tr) (s := s) i
    show yonly s (yrot1 tr i (yrot tr s i)).1
    generalize yrot tr s i = r at ih ⊢
    unfold yrot1
    split
    · split
      · exact ((ih.B).F (by omega)).F (by omega)
      · dsimp only
        split
        · exact (ih.F (by omega)).F (by omega)
        · exact ih
    · exact ih
theorem yhour_k {tr : Int32} {s : zM} (q : ywf (s.2 1)) : yk (s.2 1) ((yhour tr s).1.2 1) ∧ ywf ((yhour tr s).1.2 1) ∧ yonly s (yhour tr s).1 := by
  have hN := (zvp_clamp q.2.2.2.2.1 (by decide)).2
  have hR := (zvp_clamp q.2.2.2.2.2.2.2.1 (by decide)).2
  unfold yhour
  dsimp only
  generalize (s.2 1 96).toNatClampNeg = N at hN ⊢
  generalize (s.2 1 99).toNatClampNeg = R at hR ⊢
  have hk := yk_clear (f := 9) (w := s.2 1) (Or.inr rfl) (show N ≤ 8 by omega)
  have hw1 : ywf (yclear 9 N (s.2 1)) := ywf_k hk q (by rw [yclear_o (by omega)]; exact q.2.2.2.2.2.2.2.2.2)
  have h1 : ywf ((zF (zB s 1 (yclear 9 N (s.2 1))) 30 0).2 1) := by
    rw [zF_2, zB_2s]; exact hw1
  obtain ⟨k1, k2⟩ := yrot_k (tr := tr) h1 R (by omega)
  have ho := yrot_only (tr := tr) (s := zF (zB s 1 (yclear 9 N (s.2 1))) 30 0) R
  have ho2 : yonly s (zF (zB s 1 (yclear 9 N (s.2 1))) 30 0) := (yonly.rf.B).F (by omega)
  rw [zF_2, zB_2s] at k1
  generalize yrot tr (zF (zB s 1 (yclear 9 N (s.2 1))) 30 0) R = r at k1 k2 ho ⊢
  obtain ⟨t1, t2⟩ := yk_tail (tr := tr) (w := r.1.2 1) (show N ≤ 8 by omega)
  rw [zB_2s]
  exact ⟨(hk.tr k1).tr t1, ywf_k t1 k2 (by rw [t2]; exact k2.2.2.2.2.2.2.2.2.2), (ho2.tr ho).B⟩
theorem ykept_C {m : zM} {p f : Nat → Int32} : ykept (zC m p f) = zC (ykept m) p f := by
  unfold ykept
  dsimp only
  rw [zC_B (by decide) (by decide), zC_F]
  rfl
theorem yrot1_C {tr : Int32} {i : Nat} {m : zM} {p f : Nat → Int32} {r : Int32} : yrot1 tr i (zC m p f, r) = (zC (yrot1 tr i (m, r)).1 p f, (yrot1 tr i (m, r)).2) := by
  unfold yrot1
  dsimp only
  rw [show (zC m p f).2 1 = m.2 1 from rfl, zC_1]
  by_cases c1 : yin (m.2 1 0) (m.2 1 (166 + 5 * i + 3)) (m.2 1 (166 + 5 * i + 3) + m.2 1 (166 + 5 * i + 4) - 1) = true
  · rw [if_pos c1, if_pos c1]
    by_cases c2 : yworksok (m.2 1) (m.1 30) i = true
    · rw [if_pos c2, if_pos c2, zC_B (by decide) (by decide), zC_F, zC_F]
    · rw [if_neg c2, if_neg c2]
      by_cases c3 : m.1 27 = -1
      · rw [if_pos c3, if_pos c3, zC_F, zC_F]
      · rw [if_neg c3, if_neg c3]
  · rw [if_neg c1, if_neg c1]
theorem yrot_C {tr : Int32} {m : zM} {p f : Nat → Int32} : ∀ i, yrot tr (zC m p f) i = (zC (yrot tr m i).1 p f, (yrot tr m i).2)
  | 0 => rfl
  | i + 1 => by
    show yrot1 tr i (yrot tr (zC m p f) i) = (zC (yrot1 tr i (yrot tr m i)).1 p f, (yrot1 tr i (yrot tr m i)).2)
    rw [yrot_C i]
    exact yrot1_C
theorem yhour_C {tr : Int32} {m : zM} {p f : Nat → Int32} : yhour tr (zC m p f) = (zC (yhour tr m).1 p f, (yhour tr m).2) := by
  unfold yhour
  dsimp only
  rw [show (zC m p f).2 1 = m.2 1 from rfl, zC_B (by decide) (by decide), zC_F, yrot_C]
  dsimp only
  generalize yrot tr (zF (zB m 1 (yclear 9 (m.2 1 96).toNatClampNeg (m.2 1))) 30 0) (m.2 1 99).toNatClampNeg = r
  rw [show (zC r.1 p f).2 1 = r.1.2 1 from rfl, zC_B (by decide) (by decide)]
def yhrs (s : zM) : Nat → zM × Int32
  | 0 => (s, 0)
  | k + 1 => ((yhour 1 (ykept (yhrs s k).1)).1, (yhrs s k).2 + (yhour 1 (ykept (yhrs s k).1)).2)
theorem ykept_4 {s : zM} (h : vp_in (s.1 4) 7) : vp_in ((ykept s).1 4) 7 := by
  have hM := (zvp_clamp h (by decide)).2
  unfold ykept
  dsimp only
  rw [zF_1, if_pos rfl]
  refine vp_in_nI ?_ (by decide)
  split <;> omega
theorem yhrs_k {s : zM} (q : ywf (s.2 1)) (h4 : vp_in (s.1 4) 7) : ∀ k, ywf ((yhrs s k).1.2 1) ∧ vp_in ((yhrs s k).1.1 4) 7
  | 0 => ⟨q, h4⟩
  | k + 1 => by
    obtain ⟨h1, h2⟩ := yhrs_k q h4 k
    show ywf ((yhour 1 (ykept (yhrs s k).1)).1.2 1) ∧ vp_in ((yhour 1 (ykept (yhrs s k).1)).1.1 4) 7
    have h3 : ywf ((ykept (yhrs s k).1).2 1) := h1
    obtain ⟨-, g2, g3⟩ := yhour_k (tr := 1) h3
    exact ⟨g2, by rw [g3.2 4 (by omega) (by omega) (by omega) (by omega)]; exact ykept_4 h2⟩
def yhoursok (w : Nat → Int32) (n : Int32) : Bool := yin n 1 60 && !decide (9999 < w 0 + n)
theorem yin_1 {t hi : Int32} {n : Nat} (hn : hi = nI n) (h : n < 1000) : (yin t 1 hi = true) ↔ ∃ k : Nat, 1 ≤ k ∧ k ≤ n ∧ t = nI k := by
  constructor
  · intro q
    have q0 : yin t 0 hi = true := by
      unfold yin at q ⊢
      have e1 : (1 : Int32).toInt = 1 := rfl
      have e0 : (0 : Int32).toInt = 0 := rfl
      simp only [Bool.and_eq_true, Bool.not_eq_true', decide_eq_false_iff_not, Int32.lt_iff_toInt_lt, e1, e0] at q ⊢
      omega
    obtain ⟨k, hk, rfl⟩ := vp_in_of ((yin_c hn h).mp q0) (by omega)
    refine ⟨k, ?_, by omega, rfl⟩
    rcases Nat.eq_zero_or_pos k with e | e
    · subst e
      unfold yin at q
      simp [nI_0] at q
    · exact e
  · rintro ⟨k, h1, h2, rfl⟩
    unfold yin
    rw [hn]
    have a1 : ¬ nI k < 1 := nI_nlt (a := k) (b := 1) h1 (by omega)
    have a2 : ¬ nI n < nI k := nI_nlt h2 (by omega)
    simp [a1, a2]
def yhoursR (s : zM) (n : Int32) : zM × Int32 := if yhoursok (s.2 1) n = true then yhrs s n.toNatClampNeg else (s, -1)
def T_X3_hours : zT zM := zq1 (fun _ s => ywf (s.2 1) ∧ vp_in (s.1 4) 7) (fun n s => some (.int (yhoursR s n).2)) (fun n q s => zC (yhoursR s n).1 q.1 q.2)
abbrev G_X3_hours : zΓ zM := [(77, false, 3, T_X3_isIn), (346, true, 0, T_X3_keeps), (386, true, 1, T_X3_anHour)]
theorem Z_X3_hours_0 {σ : Type} {ret : Option FieldType} {hp : Instr → List Value → σ → (List Value → σ → Prop) → Prop} {K : Option Value → σ → Prop} {S : Nat → zL → List Value → σ → Prop} {L : zL} {s : σ} {st : List Value} : zone ret hp K cX3_hours S 0 L st s = (zldi L 1 fun v => S 1 L (v :: st) s) := zone_of dX3_hours_0 rfl
theorem Z_X3_hours_1 {σ : Type} {ret : Option FieldType} {hp : Instr → List Value → σ → (List Value → σ → Prop) → Prop} {K : Option Value → σ → Prop} {S : Nat → zL → List Value → σ → Prop} {L : zL} {s : σ} {st : List Value} : zone ret hp K cX3_hours S 1 L st s = (S 2 L (.int 1 :: st) s) := zone_iconst dX3_hours_1 (by decide)
theorem Z_X3_hours_2 {σ : Type} {ret : Option FieldType} {hp : Instr → List Value → σ → (List Value → σ → Prop) → Prop} {K : Option Value → σ → Prop} {S : Nat → zL → List Value → σ → Prop} {L : zL} {s : σ} {st : List Value} : zone ret hp K cX3_hours S 2 L st s = (S 4 L (.int 60 :: st) s) := zone_bipush dX3_hours_2 (by decide)
theorem Z_X3_hours_4 {σ : Type} {ret : Option FieldType} {hp : Instr → List Value → σ → (List Value → σ → Prop) → Prop} {K : Option Value → σ → Prop} {S : Nat → zL → List Value → σ → Prop} {L : zL} {s : σ} {st : List Value} : zone ret hp K cX3_hours S 4 L st s = (hp (.invokestatic 77) st s (fun st' s' => S 7 L st' s')) := zone_of dX3_hours_4 rfl
theorem Z_X3_hours_7 {σ : Type} {ret : Option FieldType} {hp : Instr → List Value → σ → (List Value → σ → Prop) → Prop} {K : Option Value → σ → Prop} {S : Nat → zL → List Value → σ → Prop} {L : zL} {s : σ} {st : List Value} : zone ret hp K cX3_hours S 7 L st s = (zb1 st fun x r => if x = 0 then S 24 L r s else S 10 L r s) := zone_if_eq dX3_hours_7 (by decide)
theorem Z_X3_hours_10 {σ : Type} {ret : Option FieldType} {hp : Instr → List Value → σ → (List Value → σ → Prop) → Prop} {K : Option Value → σ → Prop} {S : Nat → zL → List Value → σ → Prop} {L : zL} {s : σ} {st : List Value} : zone ret hp K cX3_hours S 10 L st s = (zlda L 0 fun v => S 11 L (v :: st) s) := zone_of dX3_hours_10 rfl
theorem Z_X3_hours_11 {σ : Type} {ret : Option FieldType} {hp : Instr → List Value → σ → (List Value → σ → Prop) → Prop} {K : Option Value → σ → Prop} {S : Nat → zL → List Value → σ → Prop} {L : zL} {s : σ} {st : List Value} : zone ret hp K cX3_hours S 11 L st s = (hp (.getfield 7) st s (fun st' s' => S 14 L st' s')) := zone_of dX3_hours_11 rfl
theorem Z_X3_hours_14 {σ : Type} {ret : Option FieldType} {hp : Instr → List Value → σ → (List Value → σ → Prop) → Prop} {K : Option Value → σ → Prop} {S : Nat → zL → List Value → σ → Prop} {L : zL} {s : σ} {st : List Value} : zone ret hp K cX3_hours S 14 L st s = (S 15 L (.int 0 :: st) s) := zone_iconst dX3_hours_14 (by decide)
theorem Z_X3_hours_15 {σ : Type} {ret : Option FieldType} {hp : Instr → List Value → σ → (List Value → σ → Prop) → Prop} {K : Option Value → σ → Prop} {S : Nat → zL → List Value → σ → Prop} {L : zL} {s : σ} {st : List Value} : zone ret hp K cX3_hours S 15 L st s = (hp (.iaload) st s (fun st' s' => S 16 L st' s')) := zone_of dX3_hours_15 rfl
theorem Z_X3_hours_16 {σ : Type} {ret : Option FieldType} {hp : Instr → List Value → σ → (List Value → σ → Prop) → Prop} {K : Option Value → σ → Prop} {S : Nat → zL → List Value → σ → Prop} {L : zL} {s : σ} {st : List Value} : zone ret hp K cX3_hours S 16 L st s = (zldi L 1 fun v => S 17 L (v :: st) s) := zone_of dX3_hours_16 rfl
theorem Z_X3_hours_17 {σ : Type} {ret : Option FieldType} {hp : Instr → List Value → σ → (List Value → σ → Prop) → Prop} {K : Option Value → σ → Prop} {S : Nat → zL → List Value → σ → Prop} {L : zL} {s : σ} {st : List Value} : zone ret hp K cX3_hours S 17 L st s = (zb2 st fun x y r => S 18 L (.int (x + y) :: r) s) := zone_of dX3_hours_17 rfl
theorem Z_X3_hours_18 {σ : Type} {ret : Option FieldType} {hp : Instr → List Value → σ → (List Value → σ → Prop) → Prop} {K : Option Value → σ → Prop} {S : Nat → zL → List Value → σ → Prop} {L : zL} {s : σ} {st : List Value} : zone ret hp K cX3_hours S 18 L st s = (S 21 L (.int 9999 :: st) s) := zone_sipush dX3_hours_18 (by decide)
theorem Z_X3_hours_21 {σ : Type} {ret : Option FieldType} {hp : Instr → List Value → σ → (List Value → σ → Prop) → Prop} {K : Option Value → σ → Prop} {S : Nat → zL → List Value → σ → Prop} {L : zL} {s : σ} {st : List Value} : zone ret hp K cX3_hours S 21 L st s = (zb2 st fun x y r => if y < x then S 24 L r s else S 26 L r s) := zone_ic_le dX3_hours_21 (by decide)
theorem Z_X3_hours_24 {σ : Type} {ret : Option FieldType} {hp : Instr → List Value → σ → (List Value → σ → Prop) → Prop} {K : Option Value → σ → Prop} {S : Nat → zL → List Value → σ → Prop} {L : zL} {s : σ} {st : List Value} : zone ret hp K cX3_hours S 24 L st s = (S 25 L (.int (-1) :: st) s) := zone_iconst dX3_hours_24 (by decide)
theorem Z_X3_hours_25 {σ : Type} {ret : Option FieldType} {hp : Instr → List Value → σ → (List Value → σ → Prop) → Prop} {K : Option Value → σ → Prop} {S : Nat → zL → List Value → σ → Prop} {L : zL} {s : σ} {v : Int32} : zone ret hp K cX3_hours S 25 L [.int v] s = (zretI ret v ∧ K (some (.int v)) s) := zone_of dX3_hours_25 rfl
theorem Z_X3_hours_26 {σ : Type} {ret : Option FieldType} {hp : Instr → List Value → σ → (List Value → σ → Prop) → Prop} {K : Option Value → σ → Prop} {S : Nat → zL → List Value → σ → Prop} {L : zL} {s : σ} {st : List Value} : zone ret hp K cX3_hours S 26 L st s = (S 27 L (.int 0 :: st) s) := zone_iconst dX3_hours_26 (by decide)
theorem Z_X3_hours_27 {σ : Type} {ret : Option FieldType} {hp : Instr → List Value → σ → (List Value → σ → Prop) → Prop} {K : Option Value → σ → Prop} {S : Nat → zL → List Value → σ → Prop} {L : zL} {s : σ} {st : List Value} : zone ret hp K cX3_hours S 27 L st s = (zsti L 2 st fun q r => S 28 q r s) := zone_of dX3_hours_27 rfl
theorem Z_X3_hours_28 {σ : Type} {ret : Option FieldType} {hp : Instr → List Value → σ → (List Value → σ → Prop) → Prop} {K : Option Value → σ → Prop} {S : Nat → zL → List Value → σ → Prop} {L : zL} {s : σ} {st : List Value} : zone ret hp K cX3_hours S 28 L st s = (S 29 L (.int 0 :: st) s) := zone_iconst dX3_hours_28 (by decide)
theorem Z_X3_hours_29 {σ : Type} {ret : Option FieldType} {hp : Instr → List Value → σ → (List Value → σ → Prop) → Prop} {K : Option Value → σ → Prop} {S : Nat → zL → List Value → σ → Prop} {L : zL} {s : σ} {st : List Value} : zone ret hp K cX3_hours S 29 L st s = (zsti L 3 st fun q r => S 30 q r s) := zone_of dX3_hours_29 rfl
theorem Z_X3_hours_30 {σ : Type} {ret : Option FieldType} {hp : Instr → List Value → σ → (List Value → σ → Prop) → Prop} {K : Option Value → σ → Prop} {S : Nat → zL → List Value → σ → Prop} {L : zL} {s : σ} {st : List Value} : zone ret hp K cX3_hours S 30 L st s = (zldi L 3 fun v => S 31 L (v :: st) s) := zone_of dX3_hours_30 rfl
theorem Z_X3_hours_31 {σ : Type} {ret : Option FieldType} {hp : Instr → List Value → σ → (List Value → σ → Prop) → Prop} {K : Option Value → σ → Prop} {S : Nat → zL → List Value → σ → Prop} {L : zL} {s : σ} {st : List Value} : zone ret hp K cX3_hours S 31 L st s = (zldi L 1 fun v => S 32 L (v :: st) s) := zone_of dX3_hours_31 rfl
theorem Z_X3_hours_32 {σ : Type} {ret : Option FieldType} {hp : Instr → List Value → σ → (List Value → σ → Prop) → Prop} {K : Option Value → σ → Prop} {S : Nat → zL → List Value → σ → Prop} {L : zL} {s : σ} {st : List Value} : zone ret hp K cX3_hours S 32 L st s = (zb2 st fun x y r => if x < y then S 35 L r s else S 53 L r s) := zone_ic_ge dX3_hours_32 (by decide)
theorem Z_X3_hours_35 {σ : Type} {ret : Option FieldType} {hp : Instr → List Value → σ → (List Value → σ → Prop) → Prop} {K : Option Value → σ → Prop} {S : Nat → zL → List Value → σ → Prop} {L : zL} {s : σ} {st : List Value} : zone ret hp K cX3_hours S 35 L st s = (zlda L 0 fun v => S 36 L (v :: st) s) := zone_of dX3_hours_35 rfl
theorem Z_X3_hours_36 {σ : Type} {ret : Option FieldType} {hp : Instr → List Value → σ → (List Value → σ → Prop) → Prop} {K : Option Value → σ → Prop} {S : Nat → zL → List Value → σ → Prop} {L : zL} {s : σ} {st : List Value} : zone ret hp K cX3_hours S 36 L st s = (hp (.invokevirtual 346) st s (fun st' s' => S 39 L st' s')) := zone_of dX3_hours_36 rfl
theorem Z_X3_hours_39 {σ : Type} {ret : Option FieldType} {hp : Instr → List Value → σ → (List Value → σ → Prop) → Prop} {K : Option Value → σ → Prop} {S : Nat → zL → List Value → σ → Prop} {L : zL} {s : σ} {st : List Value} : zone ret hp K cX3_hours S 39 L st s = (zldi L 2 fun v => S 40 L (v :: st) s) := zone_of dX3_hours_39 rfl
theorem Z_X3_hours_40 {σ : Type} {ret : Option FieldType} {hp : Instr → List Value → σ → (List Value → σ → Prop) → Prop} {K : Option Value → σ → Prop} {S : Nat → zL → List Value → σ → Prop} {L : zL} {s : σ} {st : List Value} : zone ret hp K cX3_hours S 40 L st s = (zlda L 0 fun v => S 41 L (v :: st) s) := zone_of dX3_hours_40 rfl
theorem Z_X3_hours_41 {σ : Type} {ret : Option FieldType} {hp : Instr → List Value → σ → (List Value → σ → Prop) → Prop} {K : Option Value → σ → Prop} {S : Nat → zL → List Value → σ → Prop} {L : zL} {s : σ} {st : List Value} : zone ret hp K cX3_hours S 41 L st s = (S 42 L (.int 1 :: st) s) := zone_iconst dX3_hours_41 (by decide)
theorem Z_X3_hours_42 {σ : Type} {ret : Option FieldType} {hp : Instr → List Value → σ → (List Value → σ → Prop) → Prop} {K : Option Value → σ → Prop} {S : Nat → zL → List Value → σ → Prop} {L : zL} {s : σ} {st : List Value} : zone ret hp K cX3_hours S 42 L st s = (hp (.invokevirtual 386) st s (fun st' s' => S 45 L st' s')) := zone_of dX3_hours_42 rfl
theorem Z_X3_hours_45 {σ : Type} {ret : Option FieldType} {hp : Instr → List Value → σ → (List Value → σ → Prop) → Prop} {K : Option Value → σ → Prop} {S : Nat → zL → List Value → σ → Prop} {L : zL} {s : σ} {st : List Value} : zone ret hp K cX3_hours S 45 L st s = (zb2 st fun x y r => S 46 L (.int (x + y) :: r) s) := zone_of dX3_hours_45 rfl
theorem Z_X3_hours_46 {σ : Type} {ret : Option FieldType} {hp : Instr → List Value → σ → (List Value → σ → Prop) → Prop} {K : Option Value → σ → Prop} {S : Nat → zL → List Value → σ → Prop} {L : zL} {s : σ} {st : List Value} : zone ret hp K cX3_hours S 46 L st s = (zsti L 2 st fun q r => S 47 q r s) := zone_of dX3_hours_46 rfl
theorem Z_X3_hours_47 {σ : Type} {ret : Option FieldType} {hp : Instr → List Value → σ → (List Value → σ → Prop) → Prop} {K : Option Value → σ → Prop} {S : Nat → zL → List Value → σ → Prop} {L : zL} {s : σ} {st : List Value} : zone ret hp K cX3_hours S 47 L st s = (zic L 3 1 fun q => S 50 q st s) := zone_iinc dX3_hours_47 (by decide)
theorem Z_X3_hours_50 {σ : Type} {ret : Option FieldType} {hp : Instr → List Value → σ → (List Value → σ → Prop) → Prop} {K : Option Value → σ → Prop} {S : Nat → zL → List Value → σ → Prop} {L : zL} {s : σ} {st : List Value} : zone ret hp K cX3_hours S 50 L st s = (S 30 L st s) := zone_goto dX3_hours_50 (by decide)
theorem Z_X3_hours_53 {σ : Type} {ret : Option FieldType} {hp : Instr → List Value → σ → (List Value → σ → Prop) → Prop} {K : Option Value → σ → Prop} {S : Nat → zL → List Value → σ → Prop} {L : zL} {s : σ} {st : List Value} : zone ret hp K cX3_hours S 53 L st s = (zldi L 2 fun v => S 54 L (v :: st) s) := zone_of dX3_hours_53 rfl
theorem Z_X3_hours_54 {σ : Type} {ret : Option FieldType} {hp : Instr → List Value → σ → (List Value → σ → Prop) → Prop} {K : Option Value → σ → Prop} {S : Nat → zL → List Value → σ → Prop} {L : zL} {s : σ} {v : Int32} : zone ret hp K cX3_hours S 54 L [.int v] s = (zretI ret v ∧ K (some (.int v)) s) := zone_of dX3_hours_54 rfl
theorem CC_X3_hours_77 {a0 a1 a2 : Value} {r : List Value} {s : zM} {k : List Value → zM → Prop} : zcallS G_X3_hours 77 (a2 :: a1 :: a0 :: r) s k = (zfew r 8 = true ∧ T_X3_isIn [a0, a1, a2] s (fun v s' => zpush v r (fun q => k q s'))) := zcS_n rfl rfl
theorem CC_X3_hours_346 {b : Nat} {r : List Value} {s : zM} {k : List Value → zM → Prop} : zcallV b G_X3_hours 346 (.ref b :: r) s k = (zfew r 8 = true ∧ T_X3_keeps [] s (fun v s' => zpush v r (fun q => k q s'))) := zcV_n rfl rfl
theorem CC_X3_hours_386 {b : Nat} {a0 : Value} {r : List Value} {s : zM} {k : List Value → zM → Prop} : zcallV b G_X3_hours 386 (a0 :: .ref b :: r) s k = (zfew r 8 = true ∧ T_X3_anHour [a0] s (fun v s' => zpush v r (fun q => k q s'))) := zcV_n rfl rfl
theorem TE_X3_hours {n : Int32} {s : zM} {K : Option Value → zM → Prop} : T_X3_hours [.int n] s K = ((fun _ s => ywf (s.2 1) ∧ vp_in (s.1 4) 7) n s ∧ ∀ q : zQ, K ((fun n s => some (.int (yhoursR s n).2)) n s) ((fun n q s => zC (yhoursR s n).1 q.1 q.2) n q s)) := rfl
set_option maxRecDepth 100000 in
set_option maxHeartbeats 4000000 in
theorem B_X3_hours {E : zEnv} (b : Nat) (n : Int32) (s : zM) (K : Option Value → zM → Prop) (hT : T_X3_hours [.int n] s K) (S : Nat → zL → List Value → zM → Prop) (hm : zMono (zMhp E b G_X3_hours)) (hc : zClosed (some .int) (zMhp E b G_X3_hours) K cX3_hours S) : S 0 (zent [.ref b, .int n] 4) [] s := by
  obtain ⟨⟨hwf, h4⟩, hK⟩ := hT
  dsimp only at hwf h4 hK
  cases c : yin n 1 60
  · have e : yhoursR s n = (s, -1) := by unfold yhoursR yhoursok; rw [c]; rfl
    rw [e] at hK
    have hK0 := hK (s.2 9, s.2 10)
    dsimp only at hK0
    rw [zC_id] at hK0
    refine zgo hm hc (fun q => q == 30) 60 ?_
    simp (config := {decide := true, maxSteps := 1000000}) (disch := first | rfl | decide | omega) only [↓Z_X3_hours_0, ↓Z_X3_hours_1, ↓Z_X3_hours_2, ↓Z_X3_hours_4, ↓Z_X3_hours_7, ↓Z_X3_hours_10, ↓Z_X3_hours_11, ↓Z_X3_hours_14, ↓Z_X3_hours_15, ↓Z_X3_hours_16, ↓Z_X3_hours_17, ↓Z_X3_hours_18, ↓Z_X3_hours_21, ↓Z_X3_hours_24, ↓Z_X3_hours_25, ↓Z_X3_hours_26, ↓Z_X3_hours_27, ↓Z_X3_hours_28, ↓Z_X3_hours_29, ↓Z_X3_hours_30, ↓Z_X3_hours_31, ↓Z_X3_hours_32, ↓Z_X3_hours_35, ↓Z_X3_hours_36, ↓Z_X3_hours_39, ↓Z_X3_hours_40, ↓Z_X3_hours_41, ↓Z_X3_hours_42, ↓Z_X3_hours_45, ↓Z_X3_hours_46, ↓Z_X3_hours_47, ↓Z_X3_hours_50, ↓Z_X3_hours_53, ↓Z_X3_hours_54, ↓reduceIte, ↓zrun_stop, ↓zrun_step, ↓zb2_i, ↓zb1_i, ↓zldi_0, ↓zldi_s, ↓zlda_0, ↓zlda_n, ↓zlda_s, ↓zsc_0, ↓zsc_s, ↓zsti_c, ↓zsta_r, ↓zsta_n, ↓zic_0, ↓zic_s, ↓zpush_s, ↓zpush_n, ↓zfew_0, ↓zfew_i, ↓zfew_r, ↓zfew_n, ↓zMg'_7, ↓zMhp_iS, ↓zMhp_iV, ↓zMl_1, ↓zMl_10, ↓zMl_11, ↓zMl_12, ↓zMl_13, ↓zMl_14, ↓zMl_15, ↓zMl_16, ↓zMl_17, ↓zMl_18, ↓zMl_2, ↓zMl_3, ↓zMl_4, ↓zMl_5, ↓zMl_6, ↓zMl_7, ↓zMl_8, ↓zMl_9, ↓CC_X3_hours_77, ↓CC_X3_hours_346, ↓CC_X3_hours_386, ↓TE_X3_isIn, ↓TE_X3_keeps, ↓TE_X3_anHour, zcat_int, zcat_ref, zcat_null, zret_int, zret_b0, zret_b1, zret_b, Nat.reduceAdd, Nat.reduceSub, Nat.reduceLT, Nat.reduceEqDiff, Nat.reduceBEq, Nat.reduceBNe, true_and, and_true, if_true, if_false, Bool.false_eq_true, Bool.true_eq_false, Bool.or_self, Bool.or_false, Bool.or_true, Bool.false_or, Bool.true_or, zbi_e0, zbi_e1, eq_self, reduceCtorEq, Fin.isValue, zent, List.map_cons, List.map_nil, List.length_cons, List.length_nil, List.replicate, List.cons_append, List.nil_append, List.append_nil, Nat.zero_add, Nat.add_zero, zF_1, zF_2, zA_1, zA_2s, zA_2n, zB_1, zB_2s, zB_2n, not_true_eq_false, not_false_eq_true, Int32.reduceLT, Int32.reduceAdd, Int32.reduceSub, Int32.reduceMul, ne_eq, Int32.reduceToNatClampNeg, zlit_vp, nI_al, nI_la, nI_lm, nI_ml, nI_ltl, nI_llt, nI_eql, nI_lt2, nI_eq2, nI_vp, nI_cl, nI_add, pk_mul, nI_divl, nI_sub2, nI_lsub, nI_ne0l, nI_1, nI_pred, pk_m1, upd_s, upd_n, Nat.lt_irrefl, decide_eq_false_iff_not, decide_eq_true_eq, ite_not, ite_self, Nat.reducePow, Nat.reduceMul, c]
    exact hK0
  · by_cases c2 : 9999 < s.2 1 0 + n
    · have e : yhoursR s n = (s, -1) := by unfold yhoursR yhoursok; rw [c, decide_eq_true c2]; rfl
      rw [e] at hK
      have hK0 := hK (s.2 9, s.2 10)
      dsimp only at hK0
      rw [zC_id] at hK0
      refine zgo hm hc (fun q => q == 30) 60 ?_
      simp (config := {decide := true, maxSteps := 1000000}) (disch := first | rfl | decide | omega) only [↓Z_X3_hours_0, ↓Z_X3_hours_1, ↓Z_X3_hours_2, ↓Z_X3_hours_4, ↓Z_X3_hours_7, ↓Z_X3_hours_10, ↓Z_X3_hours_11, ↓Z_X3_hours_14, ↓Z_X3_hours_15, ↓Z_X3_hours_16, ↓Z_X3_hours_17, ↓Z_X3_hours_18, ↓Z_X3_hours_21, ↓Z_X3_hours_24, ↓Z_X3_hours_25, ↓Z_X3_hours_26, ↓Z_X3_hours_27, ↓Z_X3_hours_28, ↓Z_X3_hours_29, ↓Z_X3_hours_30, ↓Z_X3_hours_31, ↓Z_X3_hours_32, ↓Z_X3_hours_35, ↓Z_X3_hours_36, ↓Z_X3_hours_39, ↓Z_X3_hours_40, ↓Z_X3_hours_41, ↓Z_X3_hours_42, ↓Z_X3_hours_45, ↓Z_X3_hours_46, ↓Z_X3_hours_47, ↓Z_X3_hours_50, ↓Z_X3_hours_53, ↓Z_X3_hours_54, ↓reduceIte, ↓zrun_stop, ↓zrun_step, ↓zb2_i, ↓zb1_i, ↓zldi_0, ↓zldi_s, ↓zlda_0, ↓zlda_n, ↓zlda_s, ↓zsc_0, ↓zsc_s, ↓zsti_c, ↓zsta_r, ↓zsta_n, ↓zic_0, ↓zic_s, ↓zpush_s, ↓zpush_n, ↓zfew_0, ↓zfew_i, ↓zfew_r, ↓zfew_n, ↓zMg'_7, ↓zMhp_iS, ↓zMhp_iV, ↓zMl_1, ↓zMl_10, ↓zMl_11, ↓zMl_12, ↓zMl_13, ↓zMl_14, ↓zMl_15, ↓zMl_16, ↓zMl_17, ↓zMl_18, ↓zMl_2, ↓zMl_3, ↓zMl_4, ↓zMl_5, ↓zMl_6, ↓zMl_7, ↓zMl_8, ↓zMl_9, ↓CC_X3_hours_77, ↓CC_X3_hours_346, ↓CC_X3_hours_386, ↓TE_X3_isIn, ↓TE_X3_keeps, ↓TE_X3_anHour, zcat_int, zcat_ref, zcat_null, zret_int, zret_b0, zret_b1, zret_b, Nat.reduceAdd, Nat.reduceSub, Nat.reduceLT, Nat.reduceEqDiff, Nat.reduceBEq, Nat.reduceBNe, true_and, and_true, if_true, if_false, Bool.false_eq_true, Bool.true_eq_false, Bool.or_self, Bool.or_false, Bool.or_true, Bool.false_or, Bool.true_or, zbi_e0, zbi_e1, eq_self, reduceCtorEq, Fin.isValue, zent, List.map_cons, List.map_nil, List.length_cons, List.length_nil, List.replicate, List.cons_append, List.nil_append, List.append_nil, Nat.zero_add, Nat.add_zero, zF_1, zF_2, zA_1, zA_2s, zA_2n, zB_1, zB_2s, zB_2n, not_true_eq_false, not_false_eq_true, Int32.reduceLT, Int32.reduceAdd, Int32.reduceSub, Int32.reduceMul, ne_eq, Int32.reduceToNatClampNeg, zlit_vp, nI_al, nI_la, nI_lm, nI_ml, nI_ltl, nI_llt, nI_eql, nI_lt2, nI_eq2, nI_vp, nI_cl, nI_add, pk_mul, nI_divl, nI_sub2, nI_lsub, nI_ne0l, nI_1, nI_pred, pk_m1, upd_s, upd_n, Nat.lt_irrefl, decide_eq_false_iff_not, decide_eq_true_eq, ite_not, ite_self, Nat.reducePow, Nat.reduceMul, c, c2]
      exact hK0
    · obtain ⟨m, hm1, hm2, rfl⟩ := (yin_1 (n := 60) rfl (by omega)).mp c
      have e : yhoursR s (nI m) = yhrs s m := by
        unfold yhoursR yhoursok
        rw [c, decide_eq_false c2, nI_clamp (by omega)]
        rfl
      rw [e] at hK
      have loop : ∀ n k : Nat, k + n = m → ∀ p f, S 30 [some (.ref b), some (.int (nI m)), some (.int (yhrs s k).2), some (.int (nI k))] [] (zC (yhrs s k).1 p f) := by
        intro n
        induction n with
        | zero =>
          intro k hk p f
          obtain rfl : k = m := by omega
          refine zgo hm hc (fun q => q == 30) 60 ?_
          simp (config := {decide := true, maxSteps := 1000000}) (disch := first | rfl | decide | omega) only [↓Z_X3_hours_0, ↓Z_X3_hours_1, ↓Z_X3_hours_2, ↓Z_X3_hours_4, ↓Z_X3_hours_7, ↓Z_X3_hours_10, ↓Z_X3_hours_11, ↓Z_X3_hours_14, ↓Z_X3_hours_15, ↓Z_X3_hours_16, ↓Z_X3_hours_17, ↓Z_X3_hours_18, ↓Z_X3_hours_21, ↓Z_X3_hours_24, ↓Z_X3_hours_25, ↓Z_X3_hours_26, ↓Z_X3_hours_27, ↓Z_X3_hours_28, ↓Z_X3_hours_29, ↓Z_X3_hours_30, ↓Z_X3_hours_31, ↓Z_X3_hours_32, ↓Z_X3_hours_35, ↓Z_X3_hours_36, ↓Z_X3_hours_39, ↓Z_X3_hours_40, ↓Z_X3_hours_41, ↓Z_X3_hours_42, ↓Z_X3_hours_45, ↓Z_X3_hours_46, ↓Z_X3_hours_47, ↓Z_X3_hours_50, ↓Z_X3_hours_53, ↓Z_X3_hours_54, ↓reduceIte, ↓zrun_stop, ↓zrun_step, ↓zb2_i, ↓zb1_i, ↓zldi_0, ↓zldi_s, ↓zlda_0, ↓zlda_n, ↓zlda_s, ↓zsc_0, ↓zsc_s, ↓zsti_c, ↓zsta_r, ↓zsta_n, ↓zic_0, ↓zic_s, ↓zpush_s, ↓zpush_n, ↓zfew_0, ↓zfew_i, ↓zfew_r, ↓zfew_n, ↓zMg'_7, ↓zMhp_iS, ↓zMhp_iV, ↓zMl_1, ↓zMl_10, ↓zMl_11, ↓zMl_12, ↓zMl_13, ↓zMl_14, ↓zMl_15, ↓zMl_16, ↓zMl_17, ↓zMl_18, ↓zMl_2, ↓zMl_3, ↓zMl_4, ↓zMl_5, ↓zMl_6, ↓zMl_7, ↓zMl_8, ↓zMl_9, ↓CC_X3_hours_77, ↓CC_X3_hours_346, ↓CC_X3_hours_386, ↓TE_X3_isIn, ↓TE_X3_keeps, ↓TE_X3_anHour, zcat_int, zcat_ref, zcat_null, zret_int, zret_b0, zret_b1, zret_b, Nat.reduceAdd, Nat.reduceSub, Nat.reduceLT, Nat.reduceEqDiff, Nat.reduceBEq, Nat.reduceBNe, true_and, and_true, if_true, if_false, Bool.false_eq_true, Bool.true_eq_false, Bool.or_self, Bool.or_false, Bool.or_true, Bool.false_or, Bool.true_or, zbi_e0, zbi_e1, eq_self, reduceCtorEq, Fin.isValue, zent, List.map_cons, List.map_nil, List.length_cons, List.length_nil, List.replicate, List.cons_append, List.nil_append, List.append_nil, Nat.zero_add, Nat.add_zero, zF_1, zF_2, zA_1, zA_2s, zA_2n, zB_1, zB_2s, zB_2n, not_true_eq_false, not_false_eq_true, Int32.reduceLT, Int32.reduceAdd, Int32.reduceSub, Int32.reduceMul, ne_eq, Int32.reduceToNatClampNeg, zlit_vp, nI_al, nI_la, nI_lm, nI_ml, nI_ltl, nI_llt, nI_eql, nI_lt2, nI_eq2, nI_vp, nI_cl, nI_add, pk_mul, nI_divl, nI_sub2, nI_lsub, nI_ne0l, nI_1, nI_pred, pk_m1, upd_s, upd_n, Nat.lt_irrefl, decide_eq_false_iff_not, decide_eq_true_eq, ite_not, ite_self, Nat.reducePow, Nat.reduceMul]
          exact hK (p, f)
        | succ n ih =>
          intro k hk p f
          have hk' : k < m := by omega
          obtain ⟨g1, g2⟩ := yhrs_k hwf h4 k
          have ih : ∀ p f, S 30 [some (.ref b), some (.int (nI m)), some (.int ((yhrs s k).2 + (yhour 1 (ykept (yhrs s k).1)).2)), some (.int (nI (k + 1)))] [] (zC (yhour 1 (ykept (yhrs s k).1)).1 p f) := ih (k + 1) (by omega)
          generalize yhrs s k = r at g1 g2 ih ⊢
          have g3 : ywf ((ykept r.1).2 1) := g1
          refine zgo hm hc (fun q => q == 30) 60 ?_
          simp (config := {decide := true, maxSteps := 1000000}) (disch := first | rfl | decide | omega) only [↓Z_X3_hours_0, ↓Z_X3_hours_1, ↓Z_X3_hours_2, ↓Z_X3_hours_4, ↓Z_X3_hours_7, ↓Z_X3_hours_10, ↓Z_X3_hours_11, ↓Z_X3_hours_14, ↓Z_X3_hours_15, ↓Z_X3_hours_16, ↓Z_X3_hours_17, ↓Z_X3_hours_18, ↓Z_X3_hours_21, ↓Z_X3_hours_24, ↓Z_X3_hours_25, ↓Z_X3_hours_26, ↓Z_X3_hours_27, ↓Z_X3_hours_28, ↓Z_X3_hours_29, ↓Z_X3_hours_30, ↓Z_X3_hours_31, ↓Z_X3_hours_32, ↓Z_X3_hours_35, ↓Z_X3_hours_36, ↓Z_X3_hours_39, ↓Z_X3_hours_40, ↓Z_X3_hours_41, ↓Z_X3_hours_42, ↓Z_X3_hours_45, ↓Z_X3_hours_46, ↓Z_X3_hours_47, ↓Z_X3_hours_50, ↓Z_X3_hours_53, ↓Z_X3_hours_54, ↓reduceIte, ↓zrun_stop, ↓zrun_step, ↓zb2_i, ↓zb1_i, ↓zldi_0, ↓zldi_s, ↓zlda_0, ↓zlda_n, ↓zlda_s, ↓zsc_0, ↓zsc_s, ↓zsti_c, ↓zsta_r, ↓zsta_n, ↓zic_0, ↓zic_s, ↓zpush_s, ↓zpush_n, ↓zfew_0, ↓zfew_i, ↓zfew_r, ↓zfew_n, ↓zMg'_7, ↓zMhp_iS, ↓zMhp_iV, ↓zMl_1, ↓zMl_10, ↓zMl_11, ↓zMl_12, ↓zMl_13, ↓zMl_14, ↓zMl_15, ↓zMl_16, ↓zMl_17, ↓zMl_18, ↓zMl_2, ↓zMl_3, ↓zMl_4, ↓zMl_5, ↓zMl_6, ↓zMl_7, ↓zMl_8, ↓zMl_9, ↓CC_X3_hours_77, ↓CC_X3_hours_346, ↓CC_X3_hours_386, ↓TE_X3_isIn, ↓TE_X3_keeps, ↓TE_X3_anHour, zcat_int, zcat_ref, zcat_null, zret_int, zret_b0, zret_b1, zret_b, Nat.reduceAdd, Nat.reduceSub, Nat.reduceLT, Nat.reduceEqDiff, Nat.reduceBEq, Nat.reduceBNe, true_and, and_true, if_true, if_false, Bool.false_eq_true, Bool.true_eq_false, Bool.or_self, Bool.or_false, Bool.or_true, Bool.false_or, Bool.true_or, zbi_e0, zbi_e1, eq_self, reduceCtorEq, Fin.isValue, zent, List.map_cons, List.map_nil, List.length_cons, List.length_nil, List.replicate, List.cons_append, List.nil_append, List.append_nil, Nat.zero_add, Nat.add_zero, zF_1, zF_2, zA_1, zA_2s, zA_2n, zB_1, zB_2s, zB_2n, not_true_eq_false, not_false_eq_true, Int32.reduceLT, Int32.reduceAdd, Int32.reduceSub, Int32.reduceMul, ne_eq, Int32.reduceToNatClampNeg, zlit_vp, nI_al, nI_la, nI_lm, nI_ml, nI_ltl, nI_llt, nI_eql, nI_lt2, nI_eq2, nI_vp, nI_cl, nI_add, pk_mul, nI_divl, nI_sub2, nI_lsub, nI_ne0l, nI_1, nI_pred, pk_m1, upd_s, upd_n, Nat.lt_irrefl, decide_eq_false_iff_not, decide_eq_true_eq, ite_not, ite_self, Nat.reducePow, Nat.reduceMul, hk', ykept_C, yhour_C, zC_C, zC_1, zC_2n, g2, g3]
          exact fun q => ih q.1 q.2
      refine zgo hm hc (fun q => q == 30) 60 ?_
      simp (config := {decide := true, maxSteps := 1000000}) (disch := first | rfl | decide | omega) only [↓Z_X3_hours_0, ↓Z_X3_hours_1, ↓Z_X3_hours_2, ↓Z_X3_hours_4, ↓Z_X3_hours_7, ↓Z_X3_hours_10, ↓Z_X3_hours_11, ↓Z_X3_hours_14, ↓Z_X3_hours_15, ↓Z_X3_hours_16, ↓Z_X3_hours_17, ↓Z_X3_hours_18, ↓Z_X3_hours_21, ↓Z_X3_hours_24, ↓Z_X3_hours_25, ↓Z_X3_hours_26, ↓Z_X3_hours_27, ↓Z_X3_hours_28, ↓Z_X3_hours_29, ↓Z_X3_hours_30, ↓Z_X3_hours_31, ↓Z_X3_hours_32, ↓Z_X3_hours_35, ↓Z_X3_hours_36, ↓Z_X3_hours_39, ↓Z_X3_hours_40, ↓Z_X3_hours_41, ↓Z_X3_hours_42, ↓Z_X3_hours_45, ↓Z_X3_hours_46, ↓Z_X3_hours_47, ↓Z_X3_hours_50, ↓Z_X3_hours_53, ↓Z_X3_hours_54, ↓reduceIte, ↓zrun_stop, ↓zrun_step, ↓zb2_i, ↓zb1_i, ↓zldi_0, ↓zldi_s, ↓zlda_0, ↓zlda_n, ↓zlda_s, ↓zsc_0, ↓zsc_s, ↓zsti_c, ↓zsta_r, ↓zsta_n, ↓zic_0, ↓zic_s, ↓zpush_s, ↓zpush_n, ↓zfew_0, ↓zfew_i, ↓zfew_r, ↓zfew_n, ↓zMg'_7, ↓zMhp_iS, ↓zMhp_iV, ↓zMl_1, ↓zMl_10, ↓zMl_11, ↓zMl_12, ↓zMl_13, ↓zMl_14, ↓zMl_15, ↓zMl_16, ↓zMl_17, ↓zMl_18, ↓zMl_2, ↓zMl_3, ↓zMl_4, ↓zMl_5, ↓zMl_6, ↓zMl_7, ↓zMl_8, ↓zMl_9, ↓CC_X3_hours_77, ↓CC_X3_hours_346, ↓CC_X3_hours_386, ↓TE_X3_isIn, ↓TE_X3_keeps, ↓TE_X3_anHour, zcat_int, zcat_ref, zcat_null, zret_int, zret_b0, zret_b1, zret_b, Nat.reduceAdd, Nat.reduceSub, Nat.reduceLT, Nat.reduceEqDiff, Nat.reduceBEq, Nat.reduceBNe, true_and, and_true, if_true, if_false, Bool.false_eq_true, Bool.true_eq_false, Bool.or_self, Bool.or_false, Bool.or_true, Bool.false_or, Bool.true_or, zbi_e0, zbi_e1, eq_self, reduceCtorEq, Fin.isValue, zent, List.map_cons, List.map_nil, List.length_cons, List.length_nil, List.replicate, List.cons_append, List.nil_append, List.append_nil, Nat.zero_add, Nat.add_zero, zF_1, zF_2, zA_1, zA_2s, zA_2n, zB_1, zB_2s, zB_2n, not_true_eq_false, not_false_eq_true, Int32.reduceLT, Int32.reduceAdd, Int32.reduceSub, Int32.reduceMul, ne_eq, Int32.reduceToNatClampNeg, zlit_vp, nI_al, nI_la, nI_lm, nI_ml, nI_ltl, nI_llt, nI_eql, nI_lt2, nI_eq2, nI_vp, nI_cl, nI_add, pk_mul, nI_divl, nI_sub2, nI_lsub, nI_ne0l, nI_1, nI_pred, pk_m1, upd_s, upd_n, Nat.lt_irrefl, decide_eq_false_iff_not, decide_eq_true_eq, ite_not, ite_self, Nat.reducePow, Nat.reduceMul, c, c2]
      have := loop m 0 (by omega) (s.2 9) (s.2 10)
      rw [show yhrs s 0 = (s, 0) from rfl] at this
      dsimp only at this
      rw [zC_id] at this
      exact this
theorem MS_X3_hours {l : Launch} {E : zEnv} {b0 : Nat} : zMS l E b0 8 yX3_hours (ws_ yX3_hours cX3_hours 4 (some .int)) 0 0 (zlV E T_X3_hours) := by
  refine zM_MS (Γ := G_X3_hours) rfl (zΓok_cons (IM_X3_isIn (by decide)) (zΓok_cons (IM_X3_keeps (by decide)) (zΓok_cons (IM_X3_anHour (by decide)) zΓok_nil))) (fun as s K h => ?_) ?_
  · have h1 := zq1_a as s K h
    exact ⟨by rw [h1.1]; decide, h1.2⟩
  · intro b as s K hT S hm hc
    have h0 := hT
    unfold T_X3_hours zq1 at h0
    split at h0
    · exact B_X3_hours b _ s K hT S hm hc
    · exact h0.elim
