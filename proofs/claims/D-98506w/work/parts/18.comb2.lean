/-! contracts that leave scratch open -/
abbrev zQ : Type := (Nat → Int32) × (Nat → Int32)
section ZCOMB2
variable {σ : Type}
def zq0 (P : σ → Prop) (r : σ → Option Value) (N : zQ → σ → σ) : zT σ := fun as s K => match as with
  | [] => P  s ∧ ∀ q : zQ, K (r  s) (N  q s)
  | _ => False
theorem zq0_m {P : σ → Prop} {r : σ → Option Value} {N : zQ → σ → σ} : zTm (zq0 P r N) := by
  intro as s K K' h q
  unfold zq0 at *
  split at q <;> first | exact ⟨q.1, fun z => h _ _ (q.2 z)⟩ | exact q.elim
theorem zq0_a {P : σ → Prop} {r : σ → Option Value} {N : zQ → σ → σ} : zTa (zq0 P r N) 0 := by
  intro as s K q
  unfold zq0 at q
  split at q <;> first | exact ⟨rfl, zcat_i []⟩ | exact q.elim
def zq1 (P : Int32 → σ → Prop) (r : Int32 → σ → Option Value) (N : Int32 → zQ → σ → σ) : zT σ := fun as s K => match as with
  | [.int x] => P x s ∧ ∀ q : zQ, K (r x s) (N x q s)
  | _ => False
theorem zq1_m {P : Int32 → σ → Prop} {r : Int32 → σ → Option Value} {N : Int32 → zQ → σ → σ} : zTm (zq1 P r N) := by
  intro as s K K' h q
  unfold zq1 at *
  split at q <;> first | exact ⟨q.1, fun z => h _ _ (q.2 z)⟩ | exact q.elim
theorem zq1_a {P : Int32 → σ → Prop} {r : Int32 → σ → Option Value} {N : Int32 → zQ → σ → σ} : zTa (zq1 P r N) 1 := by
  intro as s K q
  unfold zq1 at q
  split at q <;> first | exact ⟨rfl, zcat_i [_]⟩ | exact q.elim
def zq2 (P : Int32 → Int32 → σ → Prop) (r : Int32 → Int32 → σ → Option Value) (N : Int32 → Int32 → zQ → σ → σ) : zT σ := fun as s K => match as with
  | [.int x, .int y] => P x y s ∧ ∀ q : zQ, K (r x y s) (N x y q s)
  | _ => False
theorem zq2_m {P : Int32 → Int32 → σ → Prop} {r : Int32 → Int32 → σ → Option Value} {N : Int32 → Int32 → zQ → σ → σ} : zTm (zq2 P r N) := by
  intro as s K K' h q
  unfold zq2 at *
  split at q <;> first | exact ⟨q.1, fun z => h _ _ (q.2 z)⟩ | exact q.elim
theorem zq2_a {P : Int32 → Int32 → σ → Prop} {r : Int32 → Int32 → σ → Option Value} {N : Int32 → Int32 → zQ → σ → σ} : zTa (zq2 P r N) 2 := by
  intro as s K q
  unfold zq2 at q
  split at q <;> first | exact ⟨rfl, zcat_i [_, _]⟩ | exact q.elim
def zq3 (P : Int32 → Int32 → Int32 → σ → Prop) (r : Int32 → Int32 → Int32 → σ → Option Value) (N : Int32 → Int32 → Int32 → zQ → σ → σ) : zT σ := fun as s K => match as with
  | [.int x, .int y, .int w] => P x y w s ∧ ∀ q : zQ, K (r x y w s) (N x y w q s)
  | _ => False
theorem zq3_m {P : Int32 → Int32 → Int32 → σ → Prop} {r : Int32 → Int32 → Int32 → σ → Option Value} {N : Int32 → Int32 → Int32 → zQ → σ → σ} : zTm (zq3 P r N) := by
  intro as s K K' h q
  unfold zq3 at *
  split at q <;> first | exact ⟨q.1, fun z => h _ _ (q.2 z)⟩ | exact q.elim
theorem zq3_a {P : Int32 → Int32 → Int32 → σ → Prop} {r : Int32 → Int32 → Int32 → σ → Option Value} {N : Int32 → Int32 → Int32 → zQ → σ → σ} : zTa (zq3 P r N) 3 := by
  intro as s K q
  unfold zq3 at q
  split at q <;> first | exact ⟨rfl, zcat_i [_, _, _]⟩ | exact q.elim
def zq4 (P : Int32 → Int32 → Int32 → Int32 → σ → Prop) (r : Int32 → Int32 → Int32 → Int32 → σ → Option Value) (N : Int32 → Int32 → Int32 → Int32 → zQ → σ → σ) : zT σ := fun as s K => match as with
  | [.int x, .int y, .int w, .int u] => P x y w u s ∧ ∀ q : zQ, K (r x y w u s) (N x y w u q s)
  | _ => False
theorem zq4_m {P : Int32 → Int32 → Int32 → Int32 → σ → Prop} {r : Int32 → Int32 → Int32 → Int32 → σ → Option Value} {N : Int32 → Int32 → Int32 → Int32 → zQ → σ → σ} : zTm (zq4 P r N) := by
  intro as s K K' h q
  unfold zq4 at *
  split at q <;> first | exact ⟨q.1, fun z => h _ _ (q.2 z)⟩ | exact q.elim
theorem zq4_a {P : Int32 → Int32 → Int32 → Int32 → σ → Prop} {r : Int32 → Int32 → Int32 → Int32 → σ → Option Value} {N : Int32 → Int32 → Int32 → Int32 → zQ → σ → σ} : zTa (zq4 P r N) 4 := by
  intro as s K q
  unfold zq4 at q
  split at q <;> first | exact ⟨rfl, zcat_i [_, _, _, _]⟩ | exact q.elim
def zq5 (P : Int32 → Int32 → Int32 → Int32 → Int32 → σ → Prop) (r : Int32 → Int32 → Int32 → Int32 → Int32 → σ → Option Value) (N : Int32 → Int32 → Int32 → Int32 → Int32 → zQ → σ → σ) : zT σ := fun as s K => match as with
  | [.int x, .int y, .int w, .int u, .int v] => P x y w u v s ∧ ∀ q : zQ, K (r x y w u v s) (N x y w u v q s)
  | _ => False
theorem zq5_m {P : Int32 → Int32 → Int32 → Int32 → Int32 → σ → Prop} {r : Int32 → Int32 → Int32 → Int32 → Int32 → σ → Option Value} {N : Int32 → Int32 → Int32 → Int32 → Int32 → zQ → σ → σ} : zTm (zq5 P r N) := by
  intro as s K K' h q
  unfold zq5 at *
  split at q <;> first | exact ⟨q.1, fun z => h _ _ (q.2 z)⟩ | exact q.elim
theorem zq5_a {P : Int32 → Int32 → Int32 → Int32 → Int32 → σ → Prop} {r : Int32 → Int32 → Int32 → Int32 → Int32 → σ → Option Value} {N : Int32 → Int32 → Int32 → Int32 → Int32 → zQ → σ → σ} : zTa (zq5 P r N) 5 := by
  intro as s K q
  unfold zq5 at q
  split at q <;> first | exact ⟨rfl, zcat_i [_, _, _, _, _]⟩ | exact q.elim
end ZCOMB2
/-- the pile and the facts set -/
def zC (m : zM) (p f : Nat → Int32) : zM := zB (zB m 9 p) 10 f
theorem zC_1 {m : zM} {p f : Nat → Int32} : (zC m p f).1 = m.1 := rfl
theorem zC_9 {m : zM} {p f : Nat → Int32} : (zC m p f).2 9 = p := rfl
theorem zC_10 {m : zM} {p f : Nat → Int32} : (zC m p f).2 10 = f := rfl
theorem zC_2n {m : zM} {p f : Nat → Int32} {q : Nat} (h9 : q ≠ 9) (h10 : q ≠ 10) : (zC m p f).2 q = m.2 q := by simp [zC, zB, h9, h10]
theorem zC_C {m : zM} {p f p' f' : Nat → Int32} : zC (zC m p f) p' f' = zC m p' f' := by
  unfold zC zB
  congr 1
  funext q
  by_cases h : q = 10 <;> by_cases h2 : q = 9 <;> simp [h, h2]
theorem zC_p {m : zM} {p f p' : Nat → Int32} : zB (zC m p f) 9 p' = zC m p' f := by
  unfold zC zB
  congr 1
  funext q
  by_cases h : q = 10 <;> by_cases h2 : q = 9 <;> simp [h, h2]
theorem zC_f {m : zM} {p f f' : Nat → Int32} : zB (zC m p f) 10 f' = zC m p f' := by
  unfold zC zB
  congr 1
  funext q
  by_cases h : q = 10 <;> by_cases h2 : q = 9 <;> simp [h, h2]
theorem zC_F {m : zM} {p f : Nat → Int32} {j : Nat} {v : Int32} : zF (zC m p f) j v = zC (zF m j v) p f := rfl
theorem zC_B {m : zM} {p f g : Nat → Int32} {h : Nat} (h9 : h ≠ 9) (h10 : h ≠ 10) : zB (zC m p f) h g = zC (zB m h g) p f := by
  unfold zC zB
  congr 1
  funext q
  by_cases e : q = h
  · subst e
    simp [h9, h10]
  · by_cases e9 : q = 9 <;> by_cases e10 : q = 10 <;> simp [e, e9, e10] <;> simp_all
theorem zC_A {m : zM} {p f : Nat → Int32} {h i : Nat} {v : Int32} (h9 : h ≠ 9) (h10 : h ≠ 10) : zA (zC m p f) h i v = zC (zA m h i v) p f := by
  rw [zA_B, zC_2n h9 h10, zC_B h9 h10, zA_B]
theorem zC_id {m : zM} : zC m (m.2 9) (m.2 10) = m := by
  unfold zC
  rw [zB_id]
  exact zB_id
theorem zC_id9 {m : zM} {p : Nat → Int32} : zB m 9 p = zC m p (m.2 10) := by
  rw [← zC_p (p := m.2 9), zC_id]
theorem zC_id10 {m : zM} {f : Nat → Int32} : zB m 10 f = zC m (m.2 9) f := by
  rw [← zC_f (f := m.2 10), zC_id]
/-! loops that end early -/
def yall (Q : Nat → Bool) : Nat → Bool
  | 0 => true
  | n + 1 => yall Q n && Q n
theorem yall_f {Q : Nat → Bool} {k n : Nat} (hk : k < n) (h : Q k = false) : yall Q n = false := by
  induction n with
  | zero => omega
  | succ n ih =>
    unfold yall
    by_cases e : k = n
    · subst e; rw [h, Bool.and_false]
    · rw [ih (by omega), Bool.false_and]
theorem yall_t {Q : Nat → Bool} {n : Nat} (h : ∀ i, i < n → Q i = true) : yall Q n = true := by
  induction n with
  | zero => rfl
  | succ n ih =>
    unfold yall
    rw [ih (fun i hi => h i (by omega)), h n (by omega)]; rfl
theorem yall_iff {Q : Nat → Bool} {n : Nat} : yall Q n = true ↔ ∀ i, i < n → Q i = true := by
  refine ⟨fun h i hi => ?_, yall_t⟩
  cases c : Q i with
  | true => rfl
  | false => rw [yall_f hi c] at h; cases h
def yfind (Q : Nat → Bool) : Nat → Option Nat
  | 0 => none
  | n + 1 => match yfind Q n with
    | some i => some i
    | none => if Q n = true then some n else none
theorem yfind_n {Q : Nat → Bool} {n : Nat} (h : ∀ i, i < n → Q i = false) : yfind Q n = none := by
  induction n with
  | zero => rfl
  | succ n ih =>
    unfold yfind
    rw [ih (fun i hi => h i (by omega)), h n (by omega)]; rfl
theorem yfind_s {Q : Nat → Bool} {k n : Nat} (hk : k < n) (hq : Q k = true) (h : ∀ i, i < k → Q i = false) : yfind Q n = some k := by
  induction n with
  | zero => omega
  | succ n ih =>
    unfold yfind
    by_cases e : k = n
    · subst e
      rw [yfind_n h, hq]; rfl
    · rw [ih (by omega)]
theorem yfind_sp {Q : Nat → Bool} {n : Nat} : (∀ i, yfind Q n = some i → i < n ∧ Q i = true ∧ ∀ j, j < i → Q j = false) ∧ (yfind Q n = none → ∀ i, i < n → Q i = false) := by
  induction n with
  | zero => exact ⟨fun i h => (nomatch h), fun _ i h => absurd h (Nat.not_lt_zero i)⟩
  | succ n ih =>
    unfold yfind
    cases c : yfind Q n with
    | some k =>
      obtain ⟨a, b, d⟩ := ih.1 k c
      exact ⟨fun i h => by cases h; exact ⟨by omega, b, d⟩, fun h => (nomatch h)⟩
    | none =>
      have hn := ih.2 c
      dsimp only
      cases q : Q n with
      | true =>
        refine ⟨fun i h => ?_, fun h => ?_⟩
        · simp at h
          subst h
          exact ⟨by omega, q, hn⟩
        · simp at h
      | false =>
        refine ⟨fun i h => ?_, fun _ i hi => ?_⟩
        · simp at h
        · by_cases e : i = n
          · rw [e]; exact q
          · exact hn i (by omega)
theorem nI_divl {a n : Nat} (ha : a < 2147483648) (h0 : 0 < n) (hn : n < 2147483648) : nI a / (no_index (OfNat.ofNat n) : Int32) = nI (a / OfNat.ofNat n) := pk_div ha h0 hn
theorem nI_sub2 {a b : Nat} (h : b ≤ a) : nI a - nI b = nI (a - b) := pk_sub h
theorem nI_lsub {a n : Nat} (h : a ≤ (OfNat.ofNat n : Nat)) : (no_index (OfNat.ofNat n) : Int32) - nI a = nI (OfNat.ofNat n - a) := pk_sub (b := a) (a := n) h
theorem nI_ne0l {n : Nat} (h0 : 0 < n) (h : n < 2147483648) : ((no_index (OfNat.ofNat n) : Int32) = 0) = False := eq_false (nI_ne0 h0 h)
theorem yor256 {a i : Nat} (ha : a < 256) (hi : i < 8) : vp_in (nI a ||| (1 <<< (nI i &&& 31))) 256 := by
  have : ∀ i, i < 8 → ∀ a, a < 256 → (!decide ((nI a ||| (1 <<< (nI i &&& 31))) < 0) && decide ((nI a ||| (1 <<< (nI i &&& 31))).toNatClampNeg < 256)) = true := by decide +kernel
  have h := this i hi a ha
  simp only [Bool.and_eq_true, Bool.not_eq_true', decide_eq_false_iff_not, decide_eq_true_eq] at h
  exact fun q => q.elim h.1 (fun z => absurd z (Nat.not_le.mpr h.2))
