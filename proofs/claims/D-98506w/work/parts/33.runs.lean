/-! thought: hours that are taken back -/
/-- rows that are alike from place 96 on -/
def yhi (w w' : Nat → Int32) : Prop := ∀ j, 96 ≤ j → w' j = w j
theorem yhi.rf {w : Nat → Int32} : yhi w w := fun _ _ => rfl
theorem yhi.tr {w w' w'' : Nat → Int32} (h : yhi w w') (h' : yhi w' w'') : yhi w w'' := fun j q => (h' j q).trans (h j q)
theorem yhi.upd {w w' : Nat → Int32} (h : yhi w w') {i : Nat} {v : Int32} (hi : i < 96) : yhi w (upd w' i v) := fun j q => by
  rw [upd_n (by omega)]; exact h j q
theorem yhi_wears {w : Nat → Int32} {T M : Nat} (hT : T < 8) : yhi w (ywears w T M) := by
  unfold ywears
  exact (((yhi.rf.upd (by omega)).upd (by omega)).upd (by omega)).upd (by omega)
theorem yhi_worked {w : Nat → Int32} {l : Nat} (q : ywf w) (hl : l < 20) : yhi w (yworked w 0 l) := by
  obtain ⟨q1, q2, q3⟩ := q.2.2.1 l hl
  have h1 := (zvp_clamp q1 (by decide)).2
  have h3 := (zvp_clamp q3 (by decide)).2
  unfold yworked
  rw [if_pos rfl]
  exact ((yhi_wears h1).upd (by omega)).upd (by omega)
theorem yhi_rot {s : zM} (q : ywf (s.2 1)) : ∀ i, i ≤ 20 → yhi (s.2 1) ((yrot 0 s i).1.2 1)
  | 0, _ => yhi.rf
  | i + 1, hi => by
    have ih := yhi_rot q i (by omega)
    obtain ⟨-, h2⟩ := yrot_k (tr := 0) q i (by omega)
    show yhi _ ((yrot1 0 i (yrot 0 s i)).1.2 1)
    generalize yrot 0 s i = r at ih h2 ⊢
    unfold yrot1
    split
    · split
      · exact ih.tr (yhi_worked h2 (by omega))
      · dsimp only
        split
        · exact ih
        · exact ih
    · exact ih
theorem yhi_clear {f n : Nat} {w : Nat → Int32} (hn : n ≤ 8) : yhi w (yclear f n w) := fun j q => yclear_o (by omega)
theorem yhi_hour {s : zM} (q : ywf (s.2 1)) : yhi (s.2 1) ((yhour 0 s).1.2 1) := by
  have hN := (zvp_clamp q.2.2.2.2.1 (by decide)).2
  have hR := (zvp_clamp q.2.2.2.2.2.2.2.1 (by decide)).2
  unfold yhour
  dsimp only
  generalize (s.2 1 96).toNatClampNeg = N at hN ⊢
  generalize (s.2 1 99).toNatClampNeg = R at hR ⊢
  have hk := yk_clear (f := 9) (w := s.2 1) (Or.inr rfl) (show N ≤ 8 by omega)
  have hw1 : ywf (yclear 9 N (s.2 1)) := ywf_k hk q (by rw [yclear_o (by omega)]; exact q.2.2.2.2.2.2.2.2.2)
  have h1 : ywf ((zF (zB s 1 (yclear 9 N (s.2 1))) 30 0).2 1) := by
    rw [zF_2, zB_2s]; exact hw1
  have k1 := yhi_rot h1 R (by omega)
  rw [zF_2, zB_2s] at k1
  generalize yrot 0 (zF (zB s 1 (yclear 9 N (s.2 1))) 30 0) R = r at k1 ⊢
  rw [zB_2s]
  refine ((yhi_clear (by omega)).tr k1).tr ?_
  unfold ytail
  rw [if_neg (show ¬ (¬ (0 : Int32) = 0 ∧ 0 < r.1.2 1 102) by simp)]
  unfold yend
  split
  · exact (yhi.rf.upd (i := 0) (by omega)).tr (yhi_clear (by omega))
  · exact yhi.rf.upd (i := 0) (by omega)
def ylaid (s : zM) : zM := zB s 4 (fun j => if j < 96 then s.2 1 j else s.2 4 j)
def yasked (s : zM) : zM := zF (zF (zF (ylaid s) 27 (-1)) 28 (-1)) 29 0
def ythink (m : zM) : Nat → zM × Int32
  | 0 => (m, 0)
  | k + 1 => ((yhour 0 (ythink m k).1).1, (ythink m k).2 + (yhour 0 (ythink m k).1).2)
/-- a state in thought: s laid aside in it -/
def ythk (s u : zM) : Prop := ywf (u.2 1) ∧ yhi (s.2 1) (u.2 1) ∧ (∀ j, j < 96 → u.2 4 j = s.2 1 j) ∧ (∀ q, q ≠ 1 → q ≠ 4 → u.2 q = s.2 q) ∧ ∀ j, j ≠ 27 → j ≠ 28 → j ≠ 29 → j ≠ 30 → u.1 j = s.1 j
theorem ythk.o {s u : zM} (h : ywf (s.2 1)) : ythk s (ylaid s) := by
  unfold ylaid
  refine ⟨h, yhi.rf, fun j hj => ?_, fun q h1 h4 => zB_2n h4, fun _ _ _ _ _ => rfl⟩
  rw [zB_2s, if_pos hj]
theorem ythk.a {s u : zM} (h : ythk s u) : ythk s (zF (zF (zF u 27 (-1)) 28 (-1)) 29 0) := by
  obtain ⟨h1, h2, h3, h4, h5⟩ := h
  refine ⟨h1, h2, h3, h4, fun j a b c d => ?_⟩
  rw [zF_1, if_neg (by omega), zF_1, if_neg (by omega), zF_1, if_neg (by omega)]
  exact h5 j a b c d
theorem ythk.h {s u : zM} (h : ythk s u) : ythk s (yhour 0 u).1 := by
  obtain ⟨h1, h2, h3, h4, h5⟩ := h
  obtain ⟨-, g1, g2, g3⟩ := yhour_k (tr := 0) h1
  refine ⟨g1, h2.tr (yhi_hour h1), fun j hj => ?_, fun q a b => ?_, fun j a b c d => ?_⟩
  · rw [g2 4 (by omega)]; exact h3 j hj
  · rw [g2 q a]; exact h4 q a b
  · rw [g3 j a b c d]; exact h5 j a b c d
theorem ythk.w {s u : zM} (h : ythk s u) {T M : Nat} (hT : T < 8) : ythk s (zB u 1 (ywears (u.2 1) T M)) := by
  obtain ⟨h1, h2, h3, h4, h5⟩ := h
  obtain ⟨k1, k2, -⟩ := yk_wears (w := u.2 1) (M := M) hT
  refine ⟨?_, ?_, fun j hj => ?_, fun q a b => ?_, h5⟩
  · rw [zB_2s]; exact ywf_k k1 h1 (by rw [k2]; exact h1.2.2.2.2.2.2.2.2.2)
  · rw [zB_2s]; exact h2.tr (yhi_wears hT)
  · rw [zB_2n (by omega)]; exact h3 j hj
  · rw [zB_2n a]; exact h4 q a b
theorem ythk.n {s u : zM} (h : ythk s u) : ∀ k, ythk s (ythink u k).1
  | 0 => h
  | k + 1 => (h.n k).h
theorem ythk.es {s u : zM} (h : ythk s u) {p f : Nat → Int32} : zes s (zC (zB u 1 (fun j => if j < 96 then u.2 4 j else u.2 1 j)) p f) := by
  obtain ⟨h1, h2, h3, h4, h5⟩ := h
  refine zes.C ⟨?_, ?_, ?_, ?_, h5 4 (by omega) (by omega) (by omega) (by omega), h5 5 (by omega) (by omega) (by omega) (by omega), h5 16 (by omega) (by omega) (by omega) (by omega), h5 23 (by omega) (by omega) (by omega) (by omega), h5 25 (by omega) (by omega) (by omega) (by omega)⟩
  · rw [zB_2s]
    funext j
    by_cases c : j < 96
    · rw [if_pos c]; exact h3 j c
    · rw [if_neg c]; exact h2 j (by omega)
  · rw [zB_2n (by omega)]; exact h4 2 (by omega) (by omega)
  · rw [zB_2n (by omega)]; exact h4 3 (by omega) (by omega)
  · rw [zB_2n (by omega)]; exact h4 8 (by omega) (by omega)
def yrunsR (s : zM) (n what : Int32) : Int32 := if (yin n 1 99 && yin what 0 3) = true then
    (let r := ythink (yasked s) n.toNatClampNeg
     if what = 0 then r.1.1 29 else if what = 1 then r.2 else if what = 2 then r.1.1 28 else r.1.1 27)
  else -1
def T_X3_runs : zT zM := zr2 (fun _ _ s => ywf (s.2 1)) (fun n what s => some (.int (yrunsR s n what)))
abbrev G_X3_runs : zΓ zM := [(77, false, 3, T_X3_isIn), (390, true, 0, T_X3_laysAside), (386, true, 1, T_X3_anHour), (393, true, 0, T_X3_putsBack)]
theorem Z_X3_runs_0 {σ : Type} {ret : Option FieldType} {hp : Instr → List Value → σ → (List Value → σ → Prop) → Prop} {K : Option Value → σ → Prop} {S : Nat → zL → List Value → σ → Prop} {L : zL} {s : σ} {st : List Value} : zone ret hp K cX3_runs S 0 L st s = (zldi L 1 fun v => S 1 L (v :: st) s) := zone_of dX3_runs_0 rfl
theorem Z_X3_runs_1 {σ : Type} {ret : Option FieldType} {hp : Instr → List Value → σ → (List Value → σ → Prop) → Prop} {K : Option Value → σ → Prop} {S : Nat → zL → List Value → σ → Prop} {L : zL} {s : σ} {st : List Value} : zone ret hp K cX3_runs S 1 L st s = (S 2 L (.int 1 :: st) s) := zone_iconst dX3_runs_1 (by decide)
theorem Z_X3_runs_2 {σ : Type} {ret : Option FieldType} {hp : Instr → List Value → σ → (List Value → σ → Prop) → Prop} {K : Option Value → σ → Prop} {S : Nat → zL → List Value → σ → Prop} {L : zL} {s : σ} {st : List Value} : zone ret hp K cX3_runs S 2 L st s = (S 4 L (.int 99 :: st) s) := zone_bipush dX3_runs_2 (by decide)
theorem Z_X3_runs_4 {σ : Type} {ret : Option FieldType} {hp : Instr → List Value → σ → (List Value → σ → Prop) → Prop} {K : Option Value → σ → Prop} {S : Nat → zL → List Value → σ → Prop} {L : zL} {s : σ} {st : List Value} : zone ret hp K cX3_runs S 4 L st s = (hp (.invokestatic 77) st s (fun st' s' => S 7 L st' s')) := zone_of dX3_runs_4 rfl
theorem Z_X3_runs_7 {σ : Type} {ret : Option FieldType} {hp : Instr → List Value → σ → (List Value → σ → Prop) → Prop} {K : Option Value → σ → Prop} {S : Nat → zL → List Value → σ → Prop} {L : zL} {s : σ} {st : List Value} : zone ret hp K cX3_runs S 7 L st s = (zb1 st fun x r => if x = 0 then S 19 L r s else S 10 L r s) := zone_if_eq dX3_runs_7 (by decide)
theorem Z_X3_runs_10 {σ : Type} {ret : Option FieldType} {hp : Instr → List Value → σ → (List Value → σ → Prop) → Prop} {K : Option Value → σ → Prop} {S : Nat → zL → List Value → σ → Prop} {L : zL} {s : σ} {st : List Value} : zone ret hp K cX3_runs S 10 L st s = (zldi L 2 fun v => S 11 L (v :: st) s) := zone_of dX3_runs_10 rfl
theorem Z_X3_runs_11 {σ : Type} {ret : Option FieldType} {hp : Instr → List Value → σ → (List Value → σ → Prop) → Prop} {K : Option Value → σ → Prop} {S : Nat → zL → List Value → σ → Prop} {L : zL} {s : σ} {st : List Value} : zone ret hp K cX3_runs S 11 L st s = (S 12 L (.int 0 :: st) s) := zone_iconst dX3_runs_11 (by decide)
theorem Z_X3_runs_12 {σ : Type} {ret : Option FieldType} {hp : Instr → List Value → σ → (List Value → σ → Prop) → Prop} {K : Option Value → σ → Prop} {S : Nat → zL → List Value → σ → Prop} {L : zL} {s : σ} {st : List Value} : zone ret hp K cX3_runs S 12 L st s = (S 13 L (.int 3 :: st) s) := zone_iconst dX3_runs_12 (by decide)
theorem Z_X3_runs_13 {σ : Type} {ret : Option FieldType} {hp : Instr → List Value → σ → (List Value → σ → Prop) → Prop} {K : Option Value → σ → Prop} {S : Nat → zL → List Value → σ → Prop} {L : zL} {s : σ} {st : List Value} : zone ret hp K cX3_runs S 13 L st s = (hp (.invokestatic 77) st s (fun st' s' => S 16 L st' s')) := zone_of dX3_runs_13 rfl
theorem Z_X3_runs_16 {σ : Type} {ret : Option FieldType} {hp : Instr → List Value → σ → (List Value → σ → Prop) → Prop} {K : Option Value → σ → Prop} {S : Nat → zL → List Value → σ → Prop} {L : zL} {s : σ} {st : List Value} : zone ret hp K cX3_runs S 16 L st s = (zb1 st fun x r => if x = 0 then S 19 L r s else S 21 L r s) := zone_if_ne dX3_runs_16 (by decide)
theorem Z_X3_runs_19 {σ : Type} {ret : Option FieldType} {hp : Instr → List Value → σ → (List Value → σ → Prop) → Prop} {K : Option Value → σ → Prop} {S : Nat → zL → List Value → σ → Prop} {L : zL} {s : σ} {st : List Value} : zone ret hp K cX3_runs S 19 L st s = (S 20 L (.int (-1) :: st) s) := zone_iconst dX3_runs_19 (by decide)
theorem Z_X3_runs_20 {σ : Type} {ret : Option FieldType} {hp : Instr → List Value → σ → (List Value → σ → Prop) → Prop} {K : Option Value → σ → Prop} {S : Nat → zL → List Value → σ → Prop} {L : zL} {s : σ} {v : Int32} : zone ret hp K cX3_runs S 20 L [.int v] s = (zretI ret v ∧ K (some (.int v)) s) := zone_of dX3_runs_20 rfl
theorem Z_X3_runs_21 {σ : Type} {ret : Option FieldType} {hp : Instr → List Value → σ → (List Value → σ → Prop) → Prop} {K : Option Value → σ → Prop} {S : Nat → zL → List Value → σ → Prop} {L : zL} {s : σ} {st : List Value} : zone ret hp K cX3_runs S 21 L st s = (zlda L 0 fun v => S 22 L (v :: st) s) := zone_of dX3_runs_21 rfl
theorem Z_X3_runs_22 {σ : Type} {ret : Option FieldType} {hp : Instr → List Value → σ → (List Value → σ → Prop) → Prop} {K : Option Value → σ → Prop} {S : Nat → zL → List Value → σ → Prop} {L : zL} {s : σ} {st : List Value} : zone ret hp K cX3_runs S 22 L st s = (hp (.invokevirtual 390) st s (fun st' s' => S 25 L st' s')) := zone_of dX3_runs_22 rfl
theorem Z_X3_runs_25 {σ : Type} {ret : Option FieldType} {hp : Instr → List Value → σ → (List Value → σ → Prop) → Prop} {K : Option Value → σ → Prop} {S : Nat → zL → List Value → σ → Prop} {L : zL} {s : σ} {st : List Value} : zone ret hp K cX3_runs S 25 L st s = (zlda L 0 fun v => S 26 L (v :: st) s) := zone_of dX3_runs_25 rfl
theorem Z_X3_runs_26 {σ : Type} {ret : Option FieldType} {hp : Instr → List Value → σ → (List Value → σ → Prop) → Prop} {K : Option Value → σ → Prop} {S : Nat → zL → List Value → σ → Prop} {L : zL} {s : σ} {st : List Value} : zone ret hp K cX3_runs S 26 L st s = (S 27 L (.int (-1) :: st) s) := zone_iconst dX3_runs_26 (by decide)
theorem Z_X3_runs_27 {σ : Type} {ret : Option FieldType} {hp : Instr → List Value → σ → (List Value → σ → Prop) → Prop} {K : Option Value → σ → Prop} {S : Nat → zL → List Value → σ → Prop} {L : zL} {s : σ} {st : List Value} : zone ret hp K cX3_runs S 27 L st s = (hp (.putfield 377) st s (fun st' s' => S 30 L st' s')) := zone_of dX3_runs_27 rfl
theorem Z_X3_runs_30 {σ : Type} {ret : Option FieldType} {hp : Instr → List Value → σ → (List Value → σ → Prop) → Prop} {K : Option Value → σ → Prop} {S : Nat → zL → List Value → σ → Prop} {L : zL} {s : σ} {st : List Value} : zone ret hp K cX3_runs S 30 L st s = (zlda L 0 fun v => S 31 L (v :: st) s) := zone_of dX3_runs_30 rfl
theorem Z_X3_runs_31 {σ : Type} {ret : Option FieldType} {hp : Instr → List Value → σ → (List Value → σ → Prop) → Prop} {K : Option Value → σ → Prop} {S : Nat → zL → List Value → σ → Prop} {L : zL} {s : σ} {st : List Value} : zone ret hp K cX3_runs S 31 L st s = (S 32 L (.int (-1) :: st) s) := zone_iconst dX3_runs_31 (by decide)
theorem Z_X3_runs_32 {σ : Type} {ret : Option FieldType} {hp : Instr → List Value → σ → (List Value → σ → Prop) → Prop} {K : Option Value → σ → Prop} {S : Nat → zL → List Value → σ → Prop} {L : zL} {s : σ} {st : List Value} : zone ret hp K cX3_runs S 32 L st s = (hp (.putfield 380) st s (fun st' s' => S 35 L st' s')) := zone_of dX3_runs_32 rfl
theorem Z_X3_runs_35 {σ : Type} {ret : Option FieldType} {hp : Instr → List Value → σ → (List Value → σ → Prop) → Prop} {K : Option Value → σ → Prop} {S : Nat → zL → List Value → σ → Prop} {L : zL} {s : σ} {st : List Value} : zone ret hp K cX3_runs S 35 L st s = (zlda L 0 fun v => S 36 L (v :: st) s) := zone_of dX3_runs_35 rfl
theorem Z_X3_runs_36 {σ : Type} {ret : Option FieldType} {hp : Instr → List Value → σ → (List Value → σ → Prop) → Prop} {K : Option Value → σ → Prop} {S : Nat → zL → List Value → σ → Prop} {L : zL} {s : σ} {st : List Value} : zone ret hp K cX3_runs S 36 L st s = (S 37 L (.int 0 :: st) s) := zone_iconst dX3_runs_36 (by decide)
theorem Z_X3_runs_37 {σ : Type} {ret : Option FieldType} {hp : Instr → List Value → σ → (List Value → σ → Prop) → Prop} {K : Option Value → σ → Prop} {S : Nat → zL → List Value → σ → Prop} {L : zL} {s : σ} {st : List Value} : zone ret hp K cX3_runs S 37 L st s = (hp (.putfield 367) st s (fun st' s' => S 40 L st' s')) := zone_of dX3_runs_37 rfl
theorem Z_X3_runs_40 {σ : Type} {ret : Option FieldType} {hp : Instr → List Value → σ → (List Value → σ → Prop) → Prop} {K : Option Value → σ → Prop} {S : Nat → zL → List Value → σ → Prop} {L : zL} {s : σ} {st : List Value} : zone ret hp K cX3_runs S 40 L st s = (S 41 L (.int 0 :: st) s) := zone_iconst dX3_runs_40 (by decide)
theorem Z_X3_runs_41 {σ : Type} {ret : Option FieldType} {hp : Instr → List Value → σ → (List Value → σ → Prop) → Prop} {K : Option Value → σ → Prop} {S : Nat → zL → List Value → σ → Prop} {L : zL} {s : σ} {st : List Value} : zone ret hp K cX3_runs S 41 L st s = (zsti L 3 st fun q r => S 42 q r s) := zone_of dX3_runs_41 rfl
theorem Z_X3_runs_42 {σ : Type} {ret : Option FieldType} {hp : Instr → List Value → σ → (List Value → σ → Prop) → Prop} {K : Option Value → σ → Prop} {S : Nat → zL → List Value → σ → Prop} {L : zL} {s : σ} {st : List Value} : zone ret hp K cX3_runs S 42 L st s = (S 43 L (.int 0 :: st) s) := zone_iconst dX3_runs_42 (by decide)
theorem Z_X3_runs_43 {σ : Type} {ret : Option FieldType} {hp : Instr → List Value → σ → (List Value → σ → Prop) → Prop} {K : Option Value → σ → Prop} {S : Nat → zL → List Value → σ → Prop} {L : zL} {s : σ} {st : List Value} : zone ret hp K cX3_runs S 43 L st s = (zsti L 4 st fun q r => S 45 q r s) := zone_of dX3_runs_43 rfl
theorem Z_X3_runs_45 {σ : Type} {ret : Option FieldType} {hp : Instr → List Value → σ → (List Value → σ → Prop) → Prop} {K : Option Value → σ → Prop} {S : Nat → zL → List Value → σ → Prop} {L : zL} {s : σ} {st : List Value} : zone ret hp K cX3_runs S 45 L st s = (zldi L 4 fun v => S 47 L (v :: st) s) := zone_of dX3_runs_45 rfl
theorem Z_X3_runs_47 {σ : Type} {ret : Option FieldType} {hp : Instr → List Value → σ → (List Value → σ → Prop) → Prop} {K : Option Value → σ → Prop} {S : Nat → zL → List Value → σ → Prop} {L : zL} {s : σ} {st : List Value} : zone ret hp K cX3_runs S 47 L st s = (zldi L 1 fun v => S 48 L (v :: st) s) := zone_of dX3_runs_47 rfl
theorem Z_X3_runs_48 {σ : Type} {ret : Option FieldType} {hp : Instr → List Value → σ → (List Value → σ → Prop) → Prop} {K : Option Value → σ → Prop} {S : Nat → zL → List Value → σ → Prop} {L : zL} {s : σ} {st : List Value} : zone ret hp K cX3_runs S 48 L st s = (zb2 st fun x y r => if x < y then S 51 L r s else S 65 L r s) := zone_ic_ge dX3_runs_48 (by decide)
theorem Z_X3_runs_51 {σ : Type} {ret : Option FieldType} {hp : Instr → List Value → σ → (List Value → σ → Prop) → Prop} {K : Option Value → σ → Prop} {S : Nat → zL → List Value → σ → Prop} {L : zL} {s : σ} {st : List Value} : zone ret hp K cX3_runs S 51 L st s = (zldi L 3 fun v => S 52 L (v :: st) s) := zone_of dX3_runs_51 rfl
theorem Z_X3_runs_52 {σ : Type} {ret : Option FieldType} {hp : Instr → List Value → σ → (List Value → σ → Prop) → Prop} {K : Option Value → σ → Prop} {S : Nat → zL → List Value → σ → Prop} {L : zL} {s : σ} {st : List Value} : zone ret hp K cX3_runs S 52 L st s = (zlda L 0 fun v => S 53 L (v :: st) s) := zone_of dX3_runs_52 rfl
theorem Z_X3_runs_53 {σ : Type} {ret : Option FieldType} {hp : Instr → List Value → σ → (List Value → σ → Prop) → Prop} {K : Option Value → σ → Prop} {S : Nat → zL → List Value → σ → Prop} {L : zL} {s : σ} {st : List Value} : zone ret hp K cX3_runs S 53 L st s = (S 54 L (.int 0 :: st) s) := zone_iconst dX3_runs_53 (by decide)
theorem Z_X3_runs_54 {σ : Type} {ret : Option FieldType} {hp : Instr → List Value → σ → (List Value → σ → Prop) → Prop} {K : Option Value → σ → Prop} {S : Nat → zL → List Value → σ → Prop} {L : zL} {s : σ} {st : List Value} : zone ret hp K cX3_runs S 54 L st s = (hp (.invokevirtual 386) st s (fun st' s' => S 57 L st' s')) := zone_of dX3_runs_54 rfl
theorem Z_X3_runs_57 {σ : Type} {ret : Option FieldType} {hp : Instr → List Value → σ → (List Value → σ → Prop) → Prop} {K : Option Value → σ → Prop} {S : Nat → zL → List Value → σ → Prop} {L : zL} {s : σ} {st : List Value} : zone ret hp K cX3_runs S 57 L st s = (zb2 st fun x y r => S 58 L (.int (x + y) :: r) s) := zone_of dX3_runs_57 rfl
theorem Z_X3_runs_58 {σ : Type} {ret : Option FieldType} {hp : Instr → List Value → σ → (List Value → σ → Prop) → Prop} {K : Option Value → σ → Prop} {S : Nat → zL → List Value → σ → Prop} {L : zL} {s : σ} {st : List Value} : zone ret hp K cX3_runs S 58 L st s = (zsti L 3 st fun q r => S 59 q r s) := zone_of dX3_runs_58 rfl
theorem Z_X3_runs_59 {σ : Type} {ret : Option FieldType} {hp : Instr → List Value → σ → (List Value → σ → Prop) → Prop} {K : Option Value → σ → Prop} {S : Nat → zL → List Value → σ → Prop} {L : zL} {s : σ} {st : List Value} : zone ret hp K cX3_runs S 59 L st s = (zic L 4 1 fun q => S 62 q st s) := zone_iinc dX3_runs_59 (by decide)
theorem Z_X3_runs_62 {σ : Type} {ret : Option FieldType} {hp : Instr → List Value → σ → (List Value → σ → Prop) → Prop} {K : Option Value → σ → Prop} {S : Nat → zL → List Value → σ → Prop} {L : zL} {s : σ} {st : List Value} : zone ret hp K cX3_runs S 62 L st s = (S 45 L st s) := zone_goto dX3_runs_62 (by decide)
theorem Z_X3_runs_65 {σ : Type} {ret : Option FieldType} {hp : Instr → List Value → σ → (List Value → σ → Prop) → Prop} {K : Option Value → σ → Prop} {S : Nat → zL → List Value → σ → Prop} {L : zL} {s : σ} {st : List Value} : zone ret hp K cX3_runs S 65 L st s = (zlda L 0 fun v => S 66 L (v :: st) s) := zone_of dX3_runs_65 rfl
theorem Z_X3_runs_66 {σ : Type} {ret : Option FieldType} {hp : Instr → List Value → σ → (List Value → σ → Prop) → Prop} {K : Option Value → σ → Prop} {S : Nat → zL → List Value → σ → Prop} {L : zL} {s : σ} {st : List Value} : zone ret hp K cX3_runs S 66 L st s = (hp (.invokevirtual 393) st s (fun st' s' => S 69 L st' s')) := zone_of dX3_runs_66 rfl
theorem Z_X3_runs_69 {σ : Type} {ret : Option FieldType} {hp : Instr → List Value → σ → (List Value → σ → Prop) → Prop} {K : Option Value → σ → Prop} {S : Nat → zL → List Value → σ → Prop} {L : zL} {s : σ} {st : List Value} : zone ret hp K cX3_runs S 69 L st s = (zldi L 2 fun v => S 70 L (v :: st) s) := zone_of dX3_runs_69 rfl
theorem Z_X3_runs_70 {σ : Type} {ret : Option FieldType} {hp : Instr → List Value → σ → (List Value → σ → Prop) → Prop} {K : Option Value → σ → Prop} {S : Nat → zL → List Value → σ → Prop} {L : zL} {s : σ} {st : List Value} : zone ret hp K cX3_runs S 70 L st s = (zb1 st fun x r => if x = 0 then S 96 L r s else (if x = 1 then S 101 L r s else (if x = 2 then S 103 L r s else S 108 L r s))) := zone_sw dX3_runs_70 (by decide) (fun x r => zsw_s (t := 96) (by decide) (by decide) (zsw_s (t := 101) (by decide) (by decide) (zsw_s (t := 103) (by decide) (by decide) (zsw_0 (k := fun t => S t L r s) (t := 108) (by decide) _))))
theorem Z_X3_runs_96 {σ : Type} {ret : Option FieldType} {hp : Instr → List Value → σ → (List Value → σ → Prop) → Prop} {K : Option Value → σ → Prop} {S : Nat → zL → List Value → σ → Prop} {L : zL} {s : σ} {st : List Value} : zone ret hp K cX3_runs S 96 L st s = (zlda L 0 fun v => S 97 L (v :: st) s) := zone_of dX3_runs_96 rfl
theorem Z_X3_runs_97 {σ : Type} {ret : Option FieldType} {hp : Instr → List Value → σ → (List Value → σ → Prop) → Prop} {K : Option Value → σ → Prop} {S : Nat → zL → List Value → σ → Prop} {L : zL} {s : σ} {st : List Value} : zone ret hp K cX3_runs S 97 L st s = (hp (.getfield 367) st s (fun st' s' => S 100 L st' s')) := zone_of dX3_runs_97 rfl
theorem Z_X3_runs_100 {σ : Type} {ret : Option FieldType} {hp : Instr → List Value → σ → (List Value → σ → Prop) → Prop} {K : Option Value → σ → Prop} {S : Nat → zL → List Value → σ → Prop} {L : zL} {s : σ} {v : Int32} : zone ret hp K cX3_runs S 100 L [.int v] s = (zretI ret v ∧ K (some (.int v)) s) := zone_of dX3_runs_100 rfl
theorem Z_X3_runs_101 {σ : Type} {ret : Option FieldType} {hp : Instr → List Value → σ → (List Value → σ → Prop) → Prop} {K : Option Value → σ → Prop} {S : Nat → zL → List Value → σ → Prop} {L : zL} {s : σ} {st : List Value} : zone ret hp K cX3_runs S 101 L st s = (zldi L 3 fun v => S 102 L (v :: st) s) := zone_of dX3_runs_101 rfl
theorem Z_X3_runs_102 {σ : Type} {ret : Option FieldType} {hp : Instr → List Value → σ → (List Value → σ → Prop) → Prop} {K : Option Value → σ → Prop} {S : Nat → zL → List Value → σ → Prop} {L : zL} {s : σ} {v : Int32} : zone ret hp K cX3_runs S 102 L [.int v] s = (zretI ret v ∧ K (some (.int v)) s) := zone_of dX3_runs_102 rfl
theorem Z_X3_runs_103 {σ : Type} {ret : Option FieldType} {hp : Instr → List Value → σ → (List Value → σ → Prop) → Prop} {K : Option Value → σ → Prop} {S : Nat → zL → List Value → σ → Prop} {L : zL} {s : σ} {st : List Value} : zone ret hp K cX3_runs S 103 L st s = (zlda L 0 fun v => S 104 L (v :: st) s) := zone_of dX3_runs_103 rfl
theorem Z_X3_runs_104 {σ : Type} {ret : Option FieldType} {hp : Instr → List Value → σ → (List Value → σ → Prop) → Prop} {K : Option Value → σ → Prop} {S : Nat → zL → List Value → σ → Prop} {L : zL} {s : σ} {st : List Value} : zone ret hp K cX3_runs S 104 L st s = (hp (.getfield 380) st s (fun st' s' => S 107 L st' s')) := zone_of dX3_runs_104 rfl
theorem Z_X3_runs_107 {σ : Type} {ret : Option FieldType} {hp : Instr → List Value → σ → (List Value → σ → Prop) → Prop} {K : Option Value → σ → Prop} {S : Nat → zL → List Value → σ → Prop} {L : zL} {s : σ} {v : Int32} : zone ret hp K cX3_runs S 107 L [.int v] s = (zretI ret v ∧ K (some (.int v)) s) := zone_of dX3_runs_107 rfl
theorem Z_X3_runs_108 {σ : Type} {ret : Option FieldType} {hp : Instr → List Value → σ → (List Value → σ → Prop) → Prop} {K : Option Value → σ → Prop} {S : Nat → zL → List Value → σ → Prop} {L : zL} {s : σ} {st : List Value} : zone ret hp K cX3_runs S 108 L st s = (zlda L 0 fun v => S 109 L (v :: st) s) := zone_of dX3_runs_108 rfl
theorem Z_X3_runs_109 {σ : Type} {ret : Option FieldType} {hp : Instr → List Value → σ → (List Value → σ → Prop) → Prop} {K : Option Value → σ → Prop} {S : Nat → zL → List Value → σ → Prop} {L : zL} {s : σ} {st : List Value} : zone ret hp K cX3_runs S 109 L st s = (hp (.getfield 377) st s (fun st' s' => S 112 L st' s')) := zone_of dX3_runs_109 rfl
theorem Z_X3_runs_112 {σ : Type} {ret : Option FieldType} {hp : Instr → List Value → σ → (List Value → σ → Prop) → Prop} {K : Option Value → σ → Prop} {S : Nat → zL → List Value → σ → Prop} {L : zL} {s : σ} {v : Int32} : zone ret hp K cX3_runs S 112 L [.int v] s = (zretI ret v ∧ K (some (.int v)) s) := zone_of dX3_runs_112 rfl
theorem CC_X3_runs_77 {a0 a1 a2 : Value} {r : List Value} {s : zM} {k : List Value → zM → Prop} : zcallS G_X3_runs 77 (a2 :: a1 :: a0 :: r) s k = (zfew r 8 = true ∧ T_X3_isIn [a0, a1, a2] s (fun v s' => zpush v r (fun q => k q s'))) := zcS_n rfl rfl
theorem CC_X3_runs_390 {b : Nat} {r : List Value} {s : zM} {k : List Value → zM → Prop} : zcallV b G_X3_runs 390 (.ref b :: r) s k = (zfew r 8 = true ∧ T_X3_laysAside [] s (fun v s' => zpush v r (fun q => k q s'))) := zcV_n rfl rfl
theorem CC_X3_runs_386 {b : Nat} {a0 : Value} {r : List Value} {s : zM} {k : List Value → zM → Prop} : zcallV b G_X3_runs 386 (a0 :: .ref b :: r) s k = (zfew r 8 = true ∧ T_X3_anHour [a0] s (fun v s' => zpush v r (fun q => k q s'))) := zcV_n rfl rfl
theorem CC_X3_runs_393 {b : Nat} {r : List Value} {s : zM} {k : List Value → zM → Prop} : zcallV b G_X3_runs 393 (.ref b :: r) s k = (zfew r 8 = true ∧ T_X3_putsBack [] s (fun v s' => zpush v r (fun q => k q s'))) := zcV_n rfl rfl
theorem TE_X3_runs {n what : Int32} {s : zM} {K : Option Value → zM → Prop} : T_X3_runs [.int n, .int what] s K = ((fun _ _ s => ywf (s.2 1)) n what s ∧ ∀ u9 : zM, zes s u9 → K ((fun n what s => some (.int (yrunsR s n what))) n what s) u9) := rfl
set_option maxRecDepth 100000 in
set_option maxHeartbeats 4000000 in
theorem B_X3_runs {E : zEnv} (b : Nat) (n what : Int32) (s : zM) (K : Option Value → zM → Prop) (hT : T_X3_runs [.int n, .int what] s K) (S : Nat → zL → List Value → zM → Prop) (hm : zMono (zMhp E b G_X3_runs)) (hc : zClosed (some .int) (zMhp E b G_X3_runs) K cX3_runs S) : S 0 (zent [.ref b, .int n, .int what] 5) [] s := by
  obtain ⟨hwf, hK⟩ := hT
  dsimp only at hwf hK
  unfold yrunsR at hK
  cases c : yin n 1 99
  · simp only [c, Bool.false_and, Bool.false_eq_true, if_false] at hK
    refine zgo hm hc (fun q => q == 45) 60 ?_
    simp (config := {decide := true, maxSteps := 1000000}) (disch := first | rfl | decide | omega) only [↓Z_X3_runs_0, ↓Z_X3_runs_1, ↓Z_X3_runs_2, ↓Z_X3_runs_4, ↓Z_X3_runs_7, ↓Z_X3_runs_10, ↓Z_X3_runs_11, ↓Z_X3_runs_12, ↓Z_X3_runs_13, ↓Z_X3_runs_16, ↓Z_X3_runs_19, ↓Z_X3_runs_20, ↓Z_X3_runs_21, ↓Z_X3_runs_22, ↓Z_X3_runs_25, ↓Z_X3_runs_26, ↓Z_X3_runs_27, ↓Z_X3_runs_30, ↓Z_X3_runs_31, ↓Z_X3_runs_32, ↓Z_X3_runs_35, ↓Z_X3_runs_36, ↓Z_X3_runs_37, ↓Z_X3_runs_40, ↓Z_X3_runs_41, ↓Z_X3_runs_42, ↓Z_X3_runs_43, ↓Z_X3_runs_45, ↓Z_X3_runs_47, ↓Z_X3_runs_48, ↓Z_X3_runs_51, ↓Z_X3_runs_52, ↓Z_X3_runs_53, ↓Z_X3_runs_54, ↓Z_X3_runs_57, ↓Z_X3_runs_58, ↓Z_X3_runs_59, ↓Z_X3_runs_62, ↓Z_X3_runs_65, ↓Z_X3_runs_66, ↓Z_X3_runs_69, ↓Z_X3_runs_70, ↓Z_X3_runs_96, ↓Z_X3_runs_97, ↓Z_X3_runs_100, ↓Z_X3_runs_101, ↓Z_X3_runs_102, ↓Z_X3_runs_103, ↓Z_X3_runs_104, ↓Z_X3_runs_107, ↓Z_X3_runs_108, ↓Z_X3_runs_109, ↓Z_X3_runs_112, ↓reduceIte, ↓zrun_stop, ↓zrun_step, ↓zb2_i, ↓zb1_i, ↓zldi_0, ↓zldi_s, ↓zlda_0, ↓zlda_n, ↓zlda_s, ↓zsc_0, ↓zsc_s, ↓zsti_c, ↓zsta_r, ↓zsta_n, ↓zic_0, ↓zic_s, ↓zpush_s, ↓zpush_n, ↓zfew_0, ↓zfew_i, ↓zfew_r, ↓zfew_n, ↓zMg'_367, ↓zMg'_377, ↓zMg'_380, ↓zMhp_iS, ↓zMhp_iV, ↓zMp'_367, ↓zMp'_377, ↓zMp'_380, ↓CC_X3_runs_77, ↓CC_X3_runs_390, ↓CC_X3_runs_386, ↓CC_X3_runs_393, ↓TE_X3_isIn, ↓TE_X3_laysAside, ↓TE_X3_anHour, ↓TE_X3_putsBack, zcat_int, zcat_ref, zcat_null, zret_int, zret_b0, zret_b1, zret_b, Nat.reduceAdd, Nat.reduceSub, Nat.reduceLT, Nat.reduceEqDiff, Nat.reduceBEq, Nat.reduceBNe, true_and, and_true, if_true, if_false, Bool.false_eq_true, Bool.true_eq_false, Bool.or_self, Bool.or_false, Bool.or_true, Bool.false_or, Bool.true_or, zbi_e0, zbi_e1, eq_self, reduceCtorEq, Fin.isValue, zent, List.map_cons, List.map_nil, List.length_cons, List.length_nil, List.replicate, List.cons_append, List.nil_append, List.append_nil, Nat.zero_add, Nat.add_zero, zF_1, zF_2, zA_1, zA_2s, zA_2n, zB_1, zB_2s, zB_2n, not_true_eq_false, not_false_eq_true, Int32.reduceLT, Int32.reduceAdd, Int32.reduceSub, Int32.reduceMul, ne_eq, Int32.reduceToNatClampNeg, zlit_vp, nI_al, nI_la, nI_lm, nI_ml, nI_ltl, nI_llt, nI_eql, nI_lt2, nI_eq2, nI_vp, nI_cl, nI_add, pk_mul, nI_divl, nI_sub2, nI_lsub, nI_ne0l, nI_1, nI_pred, pk_m1, upd_s, upd_n, Nat.lt_irrefl, decide_eq_false_iff_not, decide_eq_true_eq, ite_not, ite_self, Nat.reducePow, Nat.reduceMul, c]
    exact hK _ zes.rf
  · cases c2 : yin what 0 3
    · simp only [c, c2, Bool.and_false, Bool.false_eq_true, if_false] at hK
      refine zgo hm hc (fun q => q == 45) 60 ?_
      simp (config := {decide := true, maxSteps := 1000000}) (disch := first | rfl | decide | omega) only [↓Z_X3_runs_0, ↓Z_X3_runs_1, ↓Z_X3_runs_2, ↓Z_X3_runs_4, ↓Z_X3_runs_7, ↓Z_X3_runs_10, ↓Z_X3_runs_11, ↓Z_X3_runs_12, ↓Z_X3_runs_13, ↓Z_X3_runs_16, ↓Z_X3_runs_19, ↓Z_X3_runs_20, ↓Z_X3_runs_21, ↓Z_X3_runs_22, ↓Z_X3_runs_25, ↓Z_X3_runs_26, ↓Z_X3_runs_27, ↓Z_X3_runs_30, ↓Z_X3_runs_31, ↓Z_X3_runs_32, ↓Z_X3_runs_35, ↓Z_X3_runs_36, ↓Z_X3_runs_37, ↓Z_X3_runs_40, ↓Z_X3_runs_41, ↓Z_X3_runs_42, ↓Z_X3_runs_43, ↓Z_X3_runs_45, ↓Z_X3_runs_47, ↓Z_X3_runs_48, ↓Z_X3_runs_51, ↓Z_X3_runs_52, ↓Z_X3_runs_53, ↓Z_X3_runs_54, ↓Z_X3_runs_57, ↓Z_X3_runs_58, ↓Z_X3_runs_59, ↓Z_X3_runs_62, ↓Z_X3_runs_65, ↓Z_X3_runs_66, ↓Z_X3_runs_69, ↓Z_X3_runs_70, ↓Z_X3_runs_96, ↓Z_X3_runs_97, ↓Z_X3_runs_100, ↓Z_X3_runs_101, ↓Z_X3_runs_102, ↓Z_X3_runs_103, ↓Z_X3_runs_104, ↓Z_X3_runs_107, ↓Z_X3_runs_108, ↓Z_X3_runs_109, ↓Z_X3_runs_112, ↓reduceIte, ↓zrun_stop, ↓zrun_step, ↓zb2_i, ↓zb1_i, ↓zldi_0, ↓zldi_s, ↓zlda_0, ↓zlda_n, ↓zlda_s, ↓zsc_0, ↓zsc_s, ↓zsti_c, ↓zsta_r, ↓zsta_n, ↓zic_0, ↓zic_s, ↓zpush_s, ↓zpush_n, ↓zfew_0, ↓zfew_i, ↓zfew_r, ↓zfew_n, ↓zMg'_367, ↓zMg'_377, ↓zMg'_380, ↓zMhp_iS, ↓zMhp_iV, ↓zMp'_367, ↓zMp'_377, ↓zMp'_380, ↓CC_X3_runs_77, ↓CC_X3_runs_390, ↓CC_X3_runs_386, ↓CC_X3_runs_393, ↓TE_X3_isIn, ↓TE_X3_laysAside, ↓TE_X3_anHour, ↓TE_X3_putsBack, zcat_int, zcat_ref, zcat_null, zret_int, zret_b0, zret_b1, zret_b, Nat.reduceAdd, Nat.reduceSub, Nat.reduceLT, Nat.reduceEqDiff, Nat.reduceBEq, Nat.reduceBNe, true_and, and_true, if_true, if_false, Bool.false_eq_true, Bool.true_eq_false, Bool.or_self, Bool.or_false, Bool.or_true, Bool.false_or, Bool.true_or, zbi_e0, zbi_e1, eq_self, reduceCtorEq, Fin.isValue, zent, List.map_cons, List.map_nil, List.length_cons, List.length_nil, List.replicate, List.cons_append, List.nil_append, List.append_nil, Nat.zero_add, Nat.add_zero, zF_1, zF_2, zA_1, zA_2s, zA_2n, zB_1, zB_2s, zB_2n, not_true_eq_false, not_false_eq_true, Int32.reduceLT, Int32.reduceAdd, Int32.reduceSub, Int32.reduceMul, ne_eq, Int32.reduceToNatClampNeg, zlit_vp, nI_al, nI_la, nI_lm, nI_ml, nI_ltl, nI_llt, nI_eql, nI_lt2, nI_eq2, nI_vp, nI_cl, nI_add, pk_mul, nI_divl, nI_sub2, nI_lsub, nI_ne0l, nI_1, nI_pred, pk_m1, upd_s, upd_n, Nat.lt_irrefl, decide_eq_false_iff_not, decide_eq_true_eq, ite_not, ite_self, Nat.reducePow, Nat.reduceMul, c, c2]
      exact hK _ zes.rf
    · simp only [c, c2, Bool.and_self, if_true] at hK
      obtain ⟨N, hN1, hN2, rfl⟩ := (yin_1 (n := 99) rfl (by omega)).mp c
      rw [nI_clamp (by omega)] at hK
      have ht := (ythk.o (u := s) hwf).a.n
      rw [show zF (zF (zF (ylaid s) 27 (-1)) 28 (-1)) 29 0 = yasked s from rfl] at ht
      have loop : ∀ n k : Nat, k + n = N → ∀ p f, S 45 [some (.ref b), some (.int (nI N)), some (.int what), some (.int (ythink (yasked s) k).2), some (.int (nI k))] [] (zC (ythink (yasked s) k).1 p f) := by
        intro n
        induction n with
        | zero =>
          intro k hk p f
          obtain rfl : k = N := by omega
          have hz := (ht k).es (p := p) (f := f)
          generalize ythink (yasked s) k = r at hK hz ⊢
          refine zgo hm hc (fun q => q == 45) 60 ?_
          simp (config := {decide := true, maxSteps := 1000000}) (disch := first | rfl | decide | omega) only [↓Z_X3_runs_0, ↓Z_X3_runs_1, ↓Z_X3_runs_2, ↓Z_X3_runs_4, ↓Z_X3_runs_7, ↓Z_X3_runs_10, ↓Z_X3_runs_11, ↓Z_X3_runs_12, ↓Z_X3_runs_13, ↓Z_X3_runs_16, ↓Z_X3_runs_19, ↓Z_X3_runs_20, ↓Z_X3_runs_21, ↓Z_X3_runs_22, ↓Z_X3_runs_25, ↓Z_X3_runs_26, ↓Z_X3_runs_27, ↓Z_X3_runs_30, ↓Z_X3_runs_31, ↓Z_X3_runs_32, ↓Z_X3_runs_35, ↓Z_X3_runs_36, ↓Z_X3_runs_37, ↓Z_X3_runs_40, ↓Z_X3_runs_41, ↓Z_X3_runs_42, ↓Z_X3_runs_43, ↓Z_X3_runs_45, ↓Z_X3_runs_47, ↓Z_X3_runs_48, ↓Z_X3_runs_51, ↓Z_X3_runs_52, ↓Z_X3_runs_53, ↓Z_X3_runs_54, ↓Z_X3_runs_57, ↓Z_X3_runs_58, ↓Z_X3_runs_59, ↓Z_X3_runs_62, ↓Z_X3_runs_65, ↓Z_X3_runs_66, ↓Z_X3_runs_69, ↓Z_X3_runs_70, ↓Z_X3_runs_96, ↓Z_X3_runs_97, ↓Z_X3_runs_100, ↓Z_X3_runs_101, ↓Z_X3_runs_102, ↓Z_X3_runs_103, ↓Z_X3_runs_104, ↓Z_X3_runs_107, ↓Z_X3_runs_108, ↓Z_X3_runs_109, ↓Z_X3_runs_112, ↓reduceIte, ↓zrun_stop, ↓zrun_step, ↓zb2_i, ↓zb1_i, ↓zldi_0, ↓zldi_s, ↓zlda_0, ↓zlda_n, ↓zlda_s, ↓zsc_0, ↓zsc_s, ↓zsti_c, ↓zsta_r, ↓zsta_n, ↓zic_0, ↓zic_s, ↓zpush_s, ↓zpush_n, ↓zfew_0, ↓zfew_i, ↓zfew_r, ↓zfew_n, ↓zMg'_367, ↓zMg'_377, ↓zMg'_380, ↓zMhp_iS, ↓zMhp_iV, ↓zMp'_367, ↓zMp'_377, ↓zMp'_380, ↓CC_X3_runs_77, ↓CC_X3_runs_390, ↓CC_X3_runs_386, ↓CC_X3_runs_393, ↓TE_X3_isIn, ↓TE_X3_laysAside, ↓TE_X3_anHour, ↓TE_X3_putsBack, zcat_int, zcat_ref, zcat_null, zret_int, zret_b0, zret_b1, zret_b, Nat.reduceAdd, Nat.reduceSub, Nat.reduceLT, Nat.reduceEqDiff, Nat.reduceBEq, Nat.reduceBNe, true_and, and_true, if_true, if_false, Bool.false_eq_true, Bool.true_eq_false, Bool.or_self, Bool.or_false, Bool.or_true, Bool.false_or, Bool.true_or, zbi_e0, zbi_e1, eq_self, reduceCtorEq, Fin.isValue, zent, List.map_cons, List.map_nil, List.length_cons, List.length_nil, List.replicate, List.cons_append, List.nil_append, List.append_nil, Nat.zero_add, Nat.add_zero, zF_1, zF_2, zA_1, zA_2s, zA_2n, zB_1, zB_2s, zB_2n, not_true_eq_false, not_false_eq_true, Int32.reduceLT, Int32.reduceAdd, Int32.reduceSub, Int32.reduceMul, ne_eq, Int32.reduceToNatClampNeg, zlit_vp, nI_al, nI_la, nI_lm, nI_ml, nI_ltl, nI_llt, nI_eql, nI_lt2, nI_eq2, nI_vp, nI_cl, nI_add, pk_mul, nI_divl, nI_sub2, nI_lsub, nI_ne0l, nI_1, nI_pred, pk_m1, upd_s, upd_n, Nat.lt_irrefl, decide_eq_false_iff_not, decide_eq_true_eq, ite_not, ite_self, Nat.reducePow, Nat.reduceMul, zC_2n, zC_B, zC_1, zC_F]
          by_cases d0 : what = 0
          · simp only [d0, if_true] at hK ⊢; exact hK _ hz
          · by_cases d1 : what = 1
            · simp only [d1, if_true] at hK ⊢; exact hK _ hz
            · by_cases d2 : what = 2
              · simp only [d2, if_true] at hK ⊢; exact hK _ hz
              · simp only [d0, d1, d2, if_false] at hK ⊢; exact hK _ hz
        | succ n ih =>
          intro k hk p f
          have hk' : k < N := by omega
          have ih := ih (k + 1) (by omega)
          have hq := (ht k).1
          rw [show ythink (yasked s) (k + 1) = ((yhour 0 (ythink (yasked s) k).1).1, (ythink (yasked s) k).2 + (yhour 0 (ythink (yasked s) k).1).2) from rfl] at ih
          dsimp only at ih
          generalize ythink (yasked s) k = r at ih hq ⊢
          refine zgo hm hc (fun q => q == 45) 60 ?_
          simp (config := {decide := true, maxSteps := 1000000}) (disch := first | rfl | decide | omega) only [↓Z_X3_runs_0, ↓Z_X3_runs_1, ↓Z_X3_runs_2, ↓Z_X3_runs_4, ↓Z_X3_runs_7, ↓Z_X3_runs_10, ↓Z_X3_runs_11, ↓Z_X3_runs_12, ↓Z_X3_runs_13, ↓Z_X3_runs_16, ↓Z_X3_runs_19, ↓Z_X3_runs_20, ↓Z_X3_runs_21, ↓Z_X3_runs_22, ↓Z_X3_runs_25, ↓Z_X3_runs_26, ↓Z_X3_runs_27, ↓Z_X3_runs_30, ↓Z_X3_runs_31, ↓Z_X3_runs_32, ↓Z_X3_runs_35, ↓Z_X3_runs_36, ↓Z_X3_runs_37, ↓Z_X3_runs_40, ↓Z_X3_runs_41, ↓Z_X3_runs_42, ↓Z_X3_runs_43, ↓Z_X3_runs_45, ↓Z_X3_runs_47, ↓Z_X3_runs_48, ↓Z_X3_runs_51, ↓Z_X3_runs_52, ↓Z_X3_runs_53, ↓Z_X3_runs_54, ↓Z_X3_runs_57, ↓Z_X3_runs_58, ↓Z_X3_runs_59, ↓Z_X3_runs_62, ↓Z_X3_runs_65, ↓Z_X3_runs_66, ↓Z_X3_runs_69, ↓Z_X3_runs_70, ↓Z_X3_runs_96, ↓Z_X3_runs_97, ↓Z_X3_runs_100, ↓Z_X3_runs_101, ↓Z_X3_runs_102, ↓Z_X3_runs_103, ↓Z_X3_runs_104, ↓Z_X3_runs_107, ↓Z_X3_runs_108, ↓Z_X3_runs_109, ↓Z_X3_runs_112, ↓reduceIte, ↓zrun_stop, ↓zrun_step, ↓zb2_i, ↓zb1_i, ↓zldi_0, ↓zldi_s, ↓zlda_0, ↓zlda_n, ↓zlda_s, ↓zsc_0, ↓zsc_s, ↓zsti_c, ↓zsta_r, ↓zsta_n, ↓zic_0, ↓zic_s, ↓zpush_s, ↓zpush_n, ↓zfew_0, ↓zfew_i, ↓zfew_r, ↓zfew_n, ↓zMg'_367, ↓zMg'_377, ↓zMg'_380, ↓zMhp_iS, ↓zMhp_iV, ↓zMp'_367, ↓zMp'_377, ↓zMp'_380, ↓CC_X3_runs_77, ↓CC_X3_runs_390, ↓CC_X3_runs_386, ↓CC_X3_runs_393, ↓TE_X3_isIn, ↓TE_X3_laysAside, ↓TE_X3_anHour, ↓TE_X3_putsBack, zcat_int, zcat_ref, zcat_null, zret_int, zret_b0, zret_b1, zret_b, Nat.reduceAdd, Nat.reduceSub, Nat.reduceLT, Nat.reduceEqDiff, Nat.reduceBEq, Nat.reduceBNe, true_and, and_true, if_true, if_false, Bool.false_eq_true, Bool.true_eq_false, Bool.or_self, Bool.or_false, Bool.or_true, Bool.false_or, Bool.true_or, zbi_e0, zbi_e1, eq_self, reduceCtorEq, Fin.isValue, zent, List.map_cons, List.map_nil, List.length_cons, List.length_nil, List.replicate, List.cons_append, List.nil_append, List.append_nil, Nat.zero_add, Nat.add_zero, zF_1, zF_2, zA_1, zA_2s, zA_2n, zB_1, zB_2s, zB_2n, not_true_eq_false, not_false_eq_true, Int32.reduceLT, Int32.reduceAdd, Int32.reduceSub, Int32.reduceMul, ne_eq, Int32.reduceToNatClampNeg, zlit_vp, nI_al, nI_la, nI_lm, nI_ml, nI_ltl, nI_llt, nI_eql, nI_lt2, nI_eq2, nI_vp, nI_cl, nI_add, pk_mul, nI_divl, nI_sub2, nI_lsub, nI_ne0l, nI_1, nI_pred, pk_m1, upd_s, upd_n, Nat.lt_irrefl, decide_eq_false_iff_not, decide_eq_true_eq, ite_not, ite_self, Nat.reducePow, Nat.reduceMul, hk', yhour_C, zC_C, zC_1, zC_2n, hq]
          exact fun q => ih q.1 q.2
      refine zgo hm hc (fun q => q == 45) 60 ?_
      simp (config := {decide := true, maxSteps := 1000000}) (disch := first | rfl | decide | omega) only [↓Z_X3_runs_0, ↓Z_X3_runs_1, ↓Z_X3_runs_2, ↓Z_X3_runs_4, ↓Z_X3_runs_7, ↓Z_X3_runs_10, ↓Z_X3_runs_11, ↓Z_X3_runs_12, ↓Z_X3_runs_13, ↓Z_X3_runs_16, ↓Z_X3_runs_19, ↓Z_X3_runs_20, ↓Z_X3_runs_21, ↓Z_X3_runs_22, ↓Z_X3_runs_25, ↓Z_X3_runs_26, ↓Z_X3_runs_27, ↓Z_X3_runs_30, ↓Z_X3_runs_31, ↓Z_X3_runs_32, ↓Z_X3_runs_35, ↓Z_X3_runs_36, ↓Z_X3_runs_37, ↓Z_X3_runs_40, ↓Z_X3_runs_41, ↓Z_X3_runs_42, ↓Z_X3_runs_43, ↓Z_X3_runs_45, ↓Z_X3_runs_47, ↓Z_X3_runs_48, ↓Z_X3_runs_51, ↓Z_X3_runs_52, ↓Z_X3_runs_53, ↓Z_X3_runs_54, ↓Z_X3_runs_57, ↓Z_X3_runs_58, ↓Z_X3_runs_59, ↓Z_X3_runs_62, ↓Z_X3_runs_65, ↓Z_X3_runs_66, ↓Z_X3_runs_69, ↓Z_X3_runs_70, ↓Z_X3_runs_96, ↓Z_X3_runs_97, ↓Z_X3_runs_100, ↓Z_X3_runs_101, ↓Z_X3_runs_102, ↓Z_X3_runs_103, ↓Z_X3_runs_104, ↓Z_X3_runs_107, ↓Z_X3_runs_108, ↓Z_X3_runs_109, ↓Z_X3_runs_112, ↓reduceIte, ↓zrun_stop, ↓zrun_step, ↓zb2_i, ↓zb1_i, ↓zldi_0, ↓zldi_s, ↓zlda_0, ↓zlda_n, ↓zlda_s, ↓zsc_0, ↓zsc_s, ↓zsti_c, ↓zsta_r, ↓zsta_n, ↓zic_0, ↓zic_s, ↓zpush_s, ↓zpush_n, ↓zfew_0, ↓zfew_i, ↓zfew_r, ↓zfew_n, ↓zMg'_367, ↓zMg'_377, ↓zMg'_380, ↓zMhp_iS, ↓zMhp_iV, ↓zMp'_367, ↓zMp'_377, ↓zMp'_380, ↓CC_X3_runs_77, ↓CC_X3_runs_390, ↓CC_X3_runs_386, ↓CC_X3_runs_393, ↓TE_X3_isIn, ↓TE_X3_laysAside, ↓TE_X3_anHour, ↓TE_X3_putsBack, zcat_int, zcat_ref, zcat_null, zret_int, zret_b0, zret_b1, zret_b, Nat.reduceAdd, Nat.reduceSub, Nat.reduceLT, Nat.reduceEqDiff, Nat.reduceBEq, Nat.reduceBNe, true_and, and_true, if_true, if_false, Bool.false_eq_true, Bool.true_eq_false, Bool.or_self, Bool.or_false, Bool.or_true, Bool.false_or, Bool.true_or, zbi_e0, zbi_e1, eq_self, reduceCtorEq, Fin.isValue, zent, List.map_cons, List.map_nil, List.length_cons, List.length_nil, List.replicate, List.cons_append, List.nil_append, List.append_nil, Nat.zero_add, Nat.add_zero, zF_1, zF_2, zA_1, zA_2s, zA_2n, zB_1, zB_2s, zB_2n, not_true_eq_false, not_false_eq_true, Int32.reduceLT, Int32.reduceAdd, Int32.reduceSub, Int32.reduceMul, ne_eq, Int32.reduceToNatClampNeg, zlit_vp, nI_al, nI_la, nI_lm, nI_ml, nI_ltl, nI_llt, nI_eql, nI_lt2, nI_eq2, nI_vp, nI_cl, nI_add, pk_mul, nI_divl, nI_sub2, nI_lsub, nI_ne0l, nI_1, nI_pred, pk_m1, upd_s, upd_n, Nat.lt_irrefl, decide_eq_false_iff_not, decide_eq_true_eq, ite_not, ite_self, Nat.reducePow, Nat.reduceMul, c, c2]
      exact zS_eq (zC_id (m := yasked s)).symm (loop N 0 (by omega) _ _)
theorem MS_X3_runs {l : Launch} {E : zEnv} {b0 : Nat} : zMS l E b0 8 yX3_runs (ws_ yX3_runs cX3_runs 5 (some .int)) 0 0 (zlV E T_X3_runs) := by
  refine zM_MS (Γ := G_X3_runs) rfl (zΓok_cons (IM_X3_isIn (by decide)) (zΓok_cons (IM_X3_laysAside (by decide)) (zΓok_cons (IM_X3_anHour (by decide)) (zΓok_cons (IM_X3_putsBack (by decide)) zΓok_nil)))) (fun as s K h => ?_) ?_
  · have h1 := zr2_a as s K h
    exact ⟨by rw [h1.1]; decide, h1.2⟩
  · intro b as s K hT S hm hc
    have h0 := hT
    unfold T_X3_runs zr2 at h0
    split at h0
    · exact B_X3_runs b _ _ s K hT S hm hc
    · exact h0.elim
