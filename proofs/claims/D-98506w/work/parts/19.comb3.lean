/-! contracts that leave all scratch open -/
/-- what is not scratch: w, kept, back, tape; backMany, hasImage, taped, faultKind, faultPlace -/
def zes (m u : zM) : Prop := u.2 1 = m.2 1 ∧ u.2 2 = m.2 2 ∧ u.2 3 = m.2 3 ∧ u.2 8 = m.2 8 ∧ u.1 4 = m.1 4 ∧ u.1 5 = m.1 5 ∧ u.1 16 = m.1 16 ∧ u.1 23 = m.1 23 ∧ u.1 25 = m.1 25
theorem zes.rf {m : zM} : zes m m := ⟨rfl, rfl, rfl, rfl, rfl, rfl, rfl, rfl, rfl⟩
theorem zes.tr {m u v : zM} (h : zes m u) (g : zes u v) : zes m v := by
  obtain ⟨a1, a2, a3, a4, a5, a6, a7, a8, a9⟩ := h
  obtain ⟨b1, b2, b3, b4, b5, b6, b7, b8, b9⟩ := g
  exact ⟨b1.trans a1, b2.trans a2, b3.trans a3, b4.trans a4, b5.trans a5, b6.trans a6, b7.trans a7, b8.trans a8, b9.trans a9⟩
theorem zes.C {m u : zM} {p f : Nat → Int32} (h : zes m u) : zes m (zC u p f) := h
theorem zes.B {m u : zM} {q : Nat} {f : Nat → Int32} (h : zes m u) (h1 : q ≠ 1) (h2 : q ≠ 2) (h3 : q ≠ 3) (h8 : q ≠ 8) : zes m (zB u q f) := by
  obtain ⟨a1, a2, a3, a4, a5⟩ := h
  exact ⟨by rw [zB_2n h1.symm]; exact a1, by rw [zB_2n h2.symm]; exact a2, by rw [zB_2n h3.symm]; exact a3, by rw [zB_2n h8.symm]; exact a4, a5⟩
theorem zes.F {m u : zM} {j : Nat} {v : Int32} (h : zes m u) (h1 : j ≠ 4 ∧ j ≠ 5 ∧ j ≠ 16 ∧ j ≠ 23 ∧ j ≠ 25) : zes m (zF u j v) := by
  obtain ⟨a1, a2, a3, a4, a5, a6, a7, a8, a9⟩ := h
  obtain ⟨c1, c2, c3, c4, c5⟩ := h1
  refine ⟨a1, a2, a3, a4, ?_, ?_, ?_, ?_, ?_⟩
  · rw [zF_1, if_neg c1.symm]; exact a5
  · rw [zF_1, if_neg c2.symm]; exact a6
  · rw [zF_1, if_neg c3.symm]; exact a7
  · rw [zF_1, if_neg c4.symm]; exact a8
  · rw [zF_1, if_neg c5.symm]; exact a9
section ZCOMB3
def zr0 (P : zM → Prop) (r : zM → Option Value) : zT zM := fun as s K => match as with
  | [] => P  s ∧ ∀ u9 : zM, zes s u9 → K (r  s) u9
  | _ => False
theorem zr0_m {P : zM → Prop} {r : zM → Option Value} : zTm (zr0 P r) := by
  intro as s K K' h q
  unfold zr0 at *
  split at q <;> first | exact ⟨q.1, fun z hz => h _ _ (q.2 z hz)⟩ | exact q.elim
theorem zr0_a {P : zM → Prop} {r : zM → Option Value} : zTa (zr0 P r) 0 := by
  intro as s K q
  unfold zr0 at q
  split at q <;> first | exact ⟨rfl, zcat_i []⟩ | exact q.elim
def zr1 (P : Int32 → zM → Prop) (r : Int32 → zM → Option Value) : zT zM := fun as s K => match as with
  | [.int x] => P x s ∧ ∀ u9 : zM, zes s u9 → K (r x s) u9
  | _ => False
theorem zr1_m {P : Int32 → zM → Prop} {r : Int32 → zM → Option Value} : zTm (zr1 P r) := by
  intro as s K K' h q
  unfold zr1 at *
  split at q <;> first | exact ⟨q.1, fun z hz => h _ _ (q.2 z hz)⟩ | exact q.elim
theorem zr1_a {P : Int32 → zM → Prop} {r : Int32 → zM → Option Value} : zTa (zr1 P r) 1 := by
  intro as s K q
  unfold zr1 at q
  split at q <;> first | exact ⟨rfl, zcat_i [_]⟩ | exact q.elim
def zr2 (P : Int32 → Int32 → zM → Prop) (r : Int32 → Int32 → zM → Option Value) : zT zM := fun as s K => match as with
  | [.int x, .int y] => P x y s ∧ ∀ u9 : zM, zes s u9 → K (r x y s) u9
  | _ => False
theorem zr2_m {P : Int32 → Int32 → zM → Prop} {r : Int32 → Int32 → zM → Option Value} : zTm (zr2 P r) := by
  intro as s K K' h q
  unfold zr2 at *
  split at q <;> first | exact ⟨q.1, fun z hz => h _ _ (q.2 z hz)⟩ | exact q.elim
theorem zr2_a {P : Int32 → Int32 → zM → Prop} {r : Int32 → Int32 → zM → Option Value} : zTa (zr2 P r) 2 := by
  intro as s K q
  unfold zr2 at q
  split at q <;> first | exact ⟨rfl, zcat_i [_, _]⟩ | exact q.elim
def zr3 (P : Int32 → Int32 → Int32 → zM → Prop) (r : Int32 → Int32 → Int32 → zM → Option Value) : zT zM := fun as s K => match as with
  | [.int x, .int y, .int w] => P x y w s ∧ ∀ u9 : zM, zes s u9 → K (r x y w s) u9
  | _ => False
theorem zr3_m {P : Int32 → Int32 → Int32 → zM → Prop} {r : Int32 → Int32 → Int32 → zM → Option Value} : zTm (zr3 P r) := by
  intro as s K K' h q
  unfold zr3 at *
  split at q <;> first | exact ⟨q.1, fun z hz => h _ _ (q.2 z hz)⟩ | exact q.elim
theorem zr3_a {P : Int32 → Int32 → Int32 → zM → Prop} {r : Int32 → Int32 → Int32 → zM → Option Value} : zTa (zr3 P r) 3 := by
  intro as s K q
  unfold zr3 at q
  split at q <;> first | exact ⟨rfl, zcat_i [_, _, _]⟩ | exact q.elim
def zr4 (P : Int32 → Int32 → Int32 → Int32 → zM → Prop) (r : Int32 → Int32 → Int32 → Int32 → zM → Option Value) : zT zM := fun as s K => match as with
  | [.int x, .int y, .int w, .int u] => P x y w u s ∧ ∀ u9 : zM, zes s u9 → K (r x y w u s) u9
  | _ => False
theorem zr4_m {P : Int32 → Int32 → Int32 → Int32 → zM → Prop} {r : Int32 → Int32 → Int32 → Int32 → zM → Option Value} : zTm (zr4 P r) := by
  intro as s K K' h q
  unfold zr4 at *
  split at q <;> first | exact ⟨q.1, fun z hz => h _ _ (q.2 z hz)⟩ | exact q.elim
theorem zr4_a {P : Int32 → Int32 → Int32 → Int32 → zM → Prop} {r : Int32 → Int32 → Int32 → Int32 → zM → Option Value} : zTa (zr4 P r) 4 := by
  intro as s K q
  unfold zr4 at q
  split at q <;> first | exact ⟨rfl, zcat_i [_, _, _, _]⟩ | exact q.elim
def zr5 (P : Int32 → Int32 → Int32 → Int32 → Int32 → zM → Prop) (r : Int32 → Int32 → Int32 → Int32 → Int32 → zM → Option Value) : zT zM := fun as s K => match as with
  | [.int x, .int y, .int w, .int u, .int v] => P x y w u v s ∧ ∀ u9 : zM, zes s u9 → K (r x y w u v s) u9
  | _ => False
theorem zr5_m {P : Int32 → Int32 → Int32 → Int32 → Int32 → zM → Prop} {r : Int32 → Int32 → Int32 → Int32 → Int32 → zM → Option Value} : zTm (zr5 P r) := by
  intro as s K K' h q
  unfold zr5 at *
  split at q <;> first | exact ⟨q.1, fun z hz => h _ _ (q.2 z hz)⟩ | exact q.elim
theorem zr5_a {P : Int32 → Int32 → Int32 → Int32 → Int32 → zM → Prop} {r : Int32 → Int32 → Int32 → Int32 → Int32 → zM → Option Value} : zTa (zr5 P r) 5 := by
  intro as s K q
  unfold zr5 at q
  split at q <;> first | exact ⟨rfl, zcat_i [_, _, _, _, _]⟩ | exact q.elim
end ZCOMB3
section ZCOMB4
variable {σ : Type}
def zx0 (P : σ → Prop) (r : σ → Option Value) (Q : σ → σ → Prop) : zT σ := fun as s K => match as with
  | [] => P  s ∧ ∀ u9 : σ, Q  s u9 → K (r  s) u9
  | _ => False
theorem zx0_m {P : σ → Prop} {r : σ → Option Value} {Q : σ → σ → Prop} : zTm (zx0 P r Q) := by
  intro as s K K' h q
  unfold zx0 at *
  split at q <;> first | exact ⟨q.1, fun z hz => h _ _ (q.2 z hz)⟩ | exact q.elim
theorem zx0_a {P : σ → Prop} {r : σ → Option Value} {Q : σ → σ → Prop} : zTa (zx0 P r Q) 0 := by
  intro as s K q
  unfold zx0 at q
  split at q <;> first | exact ⟨rfl, zcat_i []⟩ | exact q.elim
def zx1 (P : Int32 → σ → Prop) (r : Int32 → σ → Option Value) (Q : Int32 → σ → σ → Prop) : zT σ := fun as s K => match as with
  | [.int x] => P x s ∧ ∀ u9 : σ, Q x s u9 → K (r x s) u9
  | _ => False
theorem zx1_m {P : Int32 → σ → Prop} {r : Int32 → σ → Option Value} {Q : Int32 → σ → σ → Prop} : zTm (zx1 P r Q) := by
  intro as s K K' h q
  unfold zx1 at *
  split at q <;> first | exact ⟨q.1, fun z hz => h _ _ (q.2 z hz)⟩ | exact q.elim
theorem zx1_a {P : Int32 → σ → Prop} {r : Int32 → σ → Option Value} {Q : Int32 → σ → σ → Prop} : zTa (zx1 P r Q) 1 := by
  intro as s K q
  unfold zx1 at q
  split at q <;> first | exact ⟨rfl, zcat_i [_]⟩ | exact q.elim
def zx2 (P : Int32 → Int32 → σ → Prop) (r : Int32 → Int32 → σ → Option Value) (Q : Int32 → Int32 → σ → σ → Prop) : zT σ := fun as s K => match as with
  | [.int x, .int y] => P x y s ∧ ∀ u9 : σ, Q x y s u9 → K (r x y s) u9
  | _ => False
theorem zx2_m {P : Int32 → Int32 → σ → Prop} {r : Int32 → Int32 → σ → Option Value} {Q : Int32 → Int32 → σ → σ → Prop} : zTm (zx2 P r Q) := by
  intro as s K K' h q
  unfold zx2 at *
  split at q <;> first | exact ⟨q.1, fun z hz => h _ _ (q.2 z hz)⟩ | exact q.elim
theorem zx2_a {P : Int32 → Int32 → σ → Prop} {r : Int32 → Int32 → σ → Option Value} {Q : Int32 → Int32 → σ → σ → Prop} : zTa (zx2 P r Q) 2 := by
  intro as s K q
  unfold zx2 at q
  split at q <;> first | exact ⟨rfl, zcat_i [_, _]⟩ | exact q.elim
def zx3 (P : Int32 → Int32 → Int32 → σ → Prop) (r : Int32 → Int32 → Int32 → σ → Option Value) (Q : Int32 → Int32 → Int32 → σ → σ → Prop) : zT σ := fun as s K => match as with
  | [.int x, .int y, .int w] => P x y w s ∧ ∀ u9 : σ, Q x y w s u9 → K (r x y w s) u9
  | _ => False
theorem zx3_m {P : Int32 → Int32 → Int32 → σ → Prop} {r : Int32 → Int32 → Int32 → σ → Option Value} {Q : Int32 → Int32 → Int32 → σ → σ → Prop} : zTm (zx3 P r Q) := by
  intro as s K K' h q
  unfold zx3 at *
  split at q <;> first | exact ⟨q.1, fun z hz => h _ _ (q.2 z hz)⟩ | exact q.elim
theorem zx3_a {P : Int32 → Int32 → Int32 → σ → Prop} {r : Int32 → Int32 → Int32 → σ → Option Value} {Q : Int32 → Int32 → Int32 → σ → σ → Prop} : zTa (zx3 P r Q) 3 := by
  intro as s K q
  unfold zx3 at q
  split at q <;> first | exact ⟨rfl, zcat_i [_, _, _]⟩ | exact q.elim
def zx4 (P : Int32 → Int32 → Int32 → Int32 → σ → Prop) (r : Int32 → Int32 → Int32 → Int32 → σ → Option Value) (Q : Int32 → Int32 → Int32 → Int32 → σ → σ → Prop) : zT σ := fun as s K => match as with
  | [.int x, .int y, .int w, .int u] => P x y w u s ∧ ∀ u9 : σ, Q x y w u s u9 → K (r x y w u s) u9
  | _ => False
theorem zx4_m {P : Int32 → Int32 → Int32 → Int32 → σ → Prop} {r : Int32 → Int32 → Int32 → Int32 → σ → Option Value} {Q : Int32 → Int32 → Int32 → Int32 → σ → σ → Prop} : zTm (zx4 P r Q) := by
  intro as s K K' h q
  unfold zx4 at *
  split at q <;> first | exact ⟨q.1, fun z hz => h _ _ (q.2 z hz)⟩ | exact q.elim
theorem zx4_a {P : Int32 → Int32 → Int32 → Int32 → σ → Prop} {r : Int32 → Int32 → Int32 → Int32 → σ → Option Value} {Q : Int32 → Int32 → Int32 → Int32 → σ → σ → Prop} : zTa (zx4 P r Q) 4 := by
  intro as s K q
  unfold zx4 at q
  split at q <;> first | exact ⟨rfl, zcat_i [_, _, _, _]⟩ | exact q.elim
def zx5 (P : Int32 → Int32 → Int32 → Int32 → Int32 → σ → Prop) (r : Int32 → Int32 → Int32 → Int32 → Int32 → σ → Option Value) (Q : Int32 → Int32 → Int32 → Int32 → Int32 → σ → σ → Prop) : zT σ := fun as s K => match as with
  | [.int x, .int y, .int w, .int u, .int v] => P x y w u v s ∧ ∀ u9 : σ, Q x y w u v s u9 → K (r x y w u v s) u9
  | _ => False
theorem zx5_m {P : Int32 → Int32 → Int32 → Int32 → Int32 → σ → Prop} {r : Int32 → Int32 → Int32 → Int32 → Int32 → σ → Option Value} {Q : Int32 → Int32 → Int32 → Int32 → Int32 → σ → σ → Prop} : zTm (zx5 P r Q) := by
  intro as s K K' h q
  unfold zx5 at *
  split at q <;> first | exact ⟨q.1, fun z hz => h _ _ (q.2 z hz)⟩ | exact q.elim
theorem zx5_a {P : Int32 → Int32 → Int32 → Int32 → Int32 → σ → Prop} {r : Int32 → Int32 → Int32 → Int32 → Int32 → σ → Option Value} {Q : Int32 → Int32 → Int32 → Int32 → Int32 → σ → σ → Prop} : zTa (zx5 P r Q) 5 := by
  intro as s K q
  unfold zx5 at q
  split at q <;> first | exact ⟨rfl, zcat_i [_, _, _, _, _]⟩ | exact q.elim
end ZCOMB4
