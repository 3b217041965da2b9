/-! hour by hour: numbers by four, how far it is -/
theorem pow4_pos (n : Nat) : 0 < 4 ^ n := Nat.pow_pos (by decide)
theorem yd_add {V n : Nat} (h : V / 4 ^ n % 4 < 3) : (∀ j, (V + 4 ^ n) / 4 ^ j % 4 = V / 4 ^ j % 4 + (if j = n then 1 else 0)) ∧ ∀ j, n < j → (V + 4 ^ n) / 4 ^ j = V / 4 ^ j := by
  have hn := pow4_pos n
  have e0 : (V + 4 ^ n) / 4 ^ n = V / 4 ^ n + 1 := Nat.add_div_right V hn
  have hi : ∀ d, (V + 4 ^ n) / 4 ^ (n + (d + 1)) = V / 4 ^ (n + (d + 1)) := by
    intro d
    rw [Nat.pow_add, ← Nat.div_div_eq_div_mul, ← Nat.div_div_eq_div_mul, e0]
    generalize V / 4 ^ n = x at h ⊢
    rw [show 4 ^ (d + 1) = 4 * 4 ^ d by rw [Nat.pow_succ, Nat.mul_comm], ← Nat.div_div_eq_div_mul, ← Nat.div_div_eq_div_mul]
    rw [show (x + 1) / 4 = x / 4 by omega]
  refine ⟨fun j => ?_, fun j hj => ?_⟩
  · rcases Nat.lt_trichotomy j n with c | c | c
    · obtain ⟨d, rfl⟩ : ∃ d, n = j + (d + 1) := ⟨n - j - 1, by omega⟩
      rw [if_neg (by omega), Nat.pow_add, Nat.add_mul_div_left V _ (pow4_pos j)]
      rw [show 4 ^ (d + 1) = 4 * 4 ^ d by rw [Nat.pow_succ, Nat.mul_comm]]
      omega
    · subst c
      rw [if_pos rfl, e0]
      omega
    · obtain ⟨d, rfl⟩ : ∃ d, j = n + (d + 1) := ⟨j - n - 1, by omega⟩
      rw [if_neg (by omega), hi d]
      omega
  · obtain ⟨d, rfl⟩ : ∃ d, j = n + (d + 1) := ⟨j - n - 1, by omega⟩
    exact hi d
/-- an hour more of each work of a set -/
def yadd (S V n : Nat) : Nat := V + ynf (fun i => if S.testBit i = true then 4 ^ i else 0) n
theorem yadd_s {S V n : Nat} : yadd S V (n + 1) = yadd S V n + (if S.testBit n = true then 4 ^ n else 0) := by
  unfold yadd
  exact (Nat.add_assoc _ _ _).symm
theorem yadd_d {S V W : Nat} (h : ∀ i, i < W → S.testBit i = true → V / 4 ^ i % 4 < 3) : ∀ n, n ≤ W → (∀ j, yadd S V n / 4 ^ j % 4 = V / 4 ^ j % 4 + (if j < n ∧ S.testBit j = true then 1 else 0)) ∧ ∀ j, n ≤ j → yadd S V n / 4 ^ j = V / 4 ^ j
  | 0, _ => ⟨fun j => by rw [if_neg (by omega)]; rfl, fun j _ => rfl⟩
  | n + 1, hn => by
    obtain ⟨h1, h2⟩ := yadd_d h n (by omega)
    rw [yadd_s]
    by_cases c : S.testBit n = true
    · rw [if_pos c]
      have hd : yadd S V n / 4 ^ n % 4 < 3 := by
        rw [h1 n, if_neg (by omega)]
        exact h n (by omega) c
      obtain ⟨g1, g2⟩ := yd_add hd
      refine ⟨fun j => ?_, fun j hj => ?_⟩
      · rw [g1, h1]
        by_cases e : j = n
        · subst e; simp [c]
        · by_cases l : j < n
          · simp [e, l, show j < n + 1 by omega]
          · simp [e, l, show ¬ j < n + 1 by omega]
      · rw [g2 j (by omega), h2 j (by omega)]
    · rw [if_neg c, Nat.add_zero]
      refine ⟨fun j => ?_, fun j hj => h2 j (by omega)⟩
      rw [h1]
      by_cases e : j = n
      · subst e; simp [c]
      · by_cases l : j < n
        · simp [l, show j < n + 1 by omega]
        · simp [l, show ¬ j < n + 1 by omega]
/-- a number out of its digits by four -/
def ydigs (d : Nat → Nat) : Nat → Nat
  | 0 => 0
  | n + 1 => ydigs d n + d n * 4 ^ n
theorem ydigs_lt {d : Nat → Nat} : ∀ n, (∀ i, i < n → d i < 4) → ydigs d n < 4 ^ n
  | 0, _ => by show 0 < 1; decide
  | n + 1, h => by
    have ih := ydigs_lt n (fun i hi => h i (by omega))
    have hd := h n (by omega)
    have : d n * 4 ^ n ≤ 3 * 4 ^ n := Nat.mul_le_mul_right _ (by omega)
    show ydigs d n + d n * 4 ^ n < 4 ^ (n + 1)
    rw [Nat.pow_succ]
    omega
theorem ydigs_d {d : Nat → Nat} : ∀ n, (∀ i, i < n → d i < 4) → ∀ j, j < n → ydigs d n / 4 ^ j % 4 = d j
  | 0, _, _, hj => by omega
  | n + 1, h, j, hj => by
    have hl := ydigs_lt n (fun i hi => h i (by omega))
    show (ydigs d n + d n * 4 ^ n) / 4 ^ j % 4 = d j
    by_cases c : j = n
    · subst c
      rw [Nat.add_mul_div_right _ _ (pow4_pos j), Nat.div_eq_of_lt hl, Nat.zero_add]
      exact Nat.mod_eq_of_lt (h j (by omega))
    · obtain ⟨e, rfl⟩ : ∃ e, n = j + (e + 1) := ⟨n - j - 1, by omega⟩
      have ih := ydigs_d (j + (e + 1)) (fun i hi => h i (by omega)) j (by omega)
      rw [Nat.pow_add, show d (j + (e + 1)) * (4 ^ j * 4 ^ (e + 1)) = 4 ^ j * (4 * (d (j + (e + 1)) * 4 ^ e)) by
        rw [Nat.pow_succ]
        rw [Nat.mul_left_comm, Nat.mul_comm (4 ^ e) 4, Nat.mul_left_comm (d _) 4], Nat.add_mul_div_left _ _ (pow4_pos j)]
      omega
theorem yshl4 : ∀ d, d < 4 → ∀ i, i < 8 → nI d <<< (nI (2 * i) &&& 31) = nI (d * 4 ^ i) := by decide +kernel
theorem yor4 {a d n : Nat} (h : a < 4 ^ n) : a ||| d * 4 ^ n = a + d * 4 ^ n := by
  have h2 : a < 2 ^ (2 * n) := by rw [Nat.pow_mul]; exact h
  have := Nat.shiftLeft_add_eq_or_of_lt h2 d
  rw [Nat.shiftLeft_eq, Nat.pow_mul] at this
  rw [Nat.or_comm, Nat.add_comm]
  exact this.symm

theorem ystep_nI {w : Nat → Int32} {S V W : Nat} (hW : W ≤ 8) (eW : (w 98).toNatClampNeg = W) : ystep w (nI V) (nI S) = nI (yadd S V W) := by
  unfold ystep
  rw [eW]
  have : ∀ n, n ≤ W → yfold (fun i a => a + (((nI S >>> (nI i &&& 31)) &&& 1) <<< (nI (2 * i) &&& 31))) (nI V) n = nI (yadd S V n) := by
    intro n
    induction n with
    | zero => intro _; rfl
    | succ n ih =>
      intro hn
      rw [yfold_s, ih (by omega), yadd_s]
      have hb := yb1 (a := S) (i := n) (by omega)
      by_cases c : S.testBit n = true
      · have e : (nI S >>> (nI n &&& 31)) &&& 1 = nI 1 := by rw [show (nI 1 : Int32) = 1 from rfl, hb]; exact c
        rw [e, yshl4 1 (by omega) n (by omega), if_pos c, Nat.one_mul, nI_add]
      · have e : (nI S >>> (nI n &&& 31)) &&& 1 = nI 0 := by
          rcases yand1 (nI S >>> (nI n &&& 31)) with h | h
          · exact h
          · rw [hb] at h; exact absurd h c
        rw [e, yshl4 0 (by omega) n (by omega), if_neg c, Nat.zero_mul, nI_add]
  exact this W (Nat.le_refl _)
/-- the hull: what is done, what a work takes -/
def yhull (w : Nat → Int32) : Prop := ∀ i, i < 8 → ∃ d k : Nat, w (8 + i) = nI d ∧ (i < (w 98).toNatClampNeg → w (142 + 3 * i + 1) = nI k ∧ d ≤ k ∧ k ≤ 3)
def ytk (w : Nat → Int32) (i : Nat) : Nat := (w (142 + 3 * i + 1)).toNatClampNeg
def ydo (w : Nat → Int32) (i : Nat) : Nat := (w (8 + i)).toNatClampNeg
theorem yhull_tk {w : Nat → Int32} (h : yhull w) {i : Nat} (hW : (w 98).toNatClampNeg ≤ 8) (hi : i < (w 98).toNatClampNeg) : w (142 + 3 * i + 1) = nI (ytk w i) ∧ w (8 + i) = nI (ydo w i) ∧ ydo w i ≤ ytk w i ∧ ytk w i ≤ 3 := by
  obtain ⟨d, k, e1, h2⟩ := h i (by omega)
  obtain ⟨e2, e3, e4⟩ := h2 hi
  unfold ytk ydo
  rw [e1, e2, nI_clamp (by omega), nI_clamp (by omega)]
  exact ⟨rfl, rfl, e3, e4⟩
theorem ydigs_or {f : Nat → Int32} {d : Nat → Nat} : ∀ n, n ≤ 8 → (∀ i, i < n → f i = nI (d i) ∧ d i < 4) → yfold (fun i a => a ||| (f i <<< (nI (2 * i) &&& 31))) 0 n = nI (ydigs d n)
  | 0, _, _ => rfl
  | n + 1, hn, h => by
    rw [yfold_s, ydigs_or n (by omega) (fun i hi => h i (by omega)), (h n (by omega)).1, yshl4 _ (h n (by omega)).2 n (by omega), nI_or, yor4 (ydigs_lt n (fun i hi => (h i (by omega)).2))]
    rfl
def yV0 (w : Nat → Int32) : Nat := ydigs (ydo w) (w 98).toNatClampNeg
def yVE (w : Nat → Int32) : Nat := ydigs (ytk w) (w 98).toNatClampNeg
theorem ystarted_nI {w : Nat → Int32} (h : yhull w) (hW : (w 98).toNatClampNeg ≤ 8) : ystarted w = nI (yV0 w) := by
  unfold ystarted yV0
  exact ydigs_or (f := fun i => w (8 + i)) _ hW (fun i hi => by obtain ⟨a, b, c, d⟩ := yhull_tk h hW hi; exact ⟨b, by omega⟩)
theorem yended_nI {w : Nat → Int32} (h : yhull w) (hW : (w 98).toNatClampNeg ≤ 8) : yended w = nI (yVE w) := by
  unfold yended yVE
  exact ydigs_or (f := fun i => w (142 + 3 * i + 1)) _ hW (fun i hi => by obtain ⟨a, b, c, d⟩ := yhull_tk h hW hi; exact ⟨a, by omega⟩)
/-- a state of hours done -/
def yvalid (w : Nat → Int32) (V : Nat) : Prop := V < 4 ^ (w 98).toNatClampNeg ∧ ∀ i, i < (w 98).toNatClampNeg → V / 4 ^ i % 4 ≤ ytk w i
def yrem4 (w : Nat → Int32) (V : Nat) : Nat := ynf (fun i => ytk w i - V / 4 ^ i % 4) (w 98).toNatClampNeg
theorem yvalid_0 {w : Nat → Int32} (h : yhull w) (hW : (w 98).toNatClampNeg ≤ 8) : yvalid w (yV0 w) := by
  have hd : ∀ i, i < (w 98).toNatClampNeg → ydo w i < 4 := fun i hi => by obtain ⟨a, b, c, d⟩ := yhull_tk h hW hi; omega
  refine ⟨ydigs_lt _ hd, fun i hi => ?_⟩
  unfold yV0
  rw [ydigs_d _ hd i hi]
  exact (yhull_tk h hW hi).2.2.1
/-- the sets that can be gone on by -/
def ysub (S O : Nat) : Prop := ∀ i, S.testBit i = true → O.testBit i = true
theorem ysub_and {S O : Nat} : ysub (S &&& O) O := fun i h => by
  rw [Nat.testBit_and] at h
  simp at h
  exact h.2
theorem yopn_lt {w : Nat → Int32} {V : Nat} : yopn w V < 2 ^ (w 98).toNatClampNeg := by unfold yopn; exact ybits_lt _
theorem yopn_b {w : Nat → Int32} {V i : Nat} (hy : yhull w) (hW : (w 98).toNatClampNeg ≤ 8) (hv : yvalid w V) (h : (yopn w V).testBit i = true) : i < (w 98).toNatClampNeg ∧ V / 4 ^ i % 4 < ytk w i := by
  unfold yopn at h
  rw [ybits_b] at h
  simp only [Bool.and_eq_true, decide_eq_true_eq, Bool.not_eq_true'] at h
  obtain ⟨h1, h2, -⟩ := h
  refine ⟨h1, ?_⟩
  unfold ydn at h2
  rw [ybits_b, decide_eq_true h1, Bool.true_and, decide_eq_false_iff_not, (yhull_tk hy hW h1).1] at h2
  have := hv.2 i h1
  have : V / 4 ^ i % 4 ≠ ytk w i := fun e => h2 (by rw [e])
  omega
theorem yadd_ok {w : Nat → Int32} {S V : Nat} (hy : yhull w) (hW : (w 98).toNatClampNeg ≤ 8) (hv : yvalid w V) (hs : ysub S (yopn w V)) : yvalid w (yadd S V (w 98).toNatClampNeg) ∧ (S ≠ 0 → yrem4 w (yadd S V (w 98).toNatClampNeg) < yrem4 w V) := by
  have hb := fun i h => yopn_b hy hW hv (hs i h)
  obtain ⟨d1, d2⟩ := yadd_d (S := S) (V := V) (W := (w 98).toNatClampNeg) (fun i hi h => by have := (hb i h).2; have := (yhull_tk hy hW hi).2.2.2; omega) _ (Nat.le_refl _)
  have hle : ∀ i, i < (w 98).toNatClampNeg → yadd S V (w 98).toNatClampNeg / 4 ^ i % 4 ≤ ytk w i ∧ ytk w i - yadd S V (w 98).toNatClampNeg / 4 ^ i % 4 ≤ ytk w i - V / 4 ^ i % 4 := by
    intro i hi
    rw [d1]
    by_cases c : S.testBit i = true
    · have := (hb i c).2
      rw [if_pos ⟨hi, c⟩]
      omega
    · have := hv.2 i hi
      rw [if_neg (fun q => c q.2)]
      omega
  refine ⟨⟨?_, fun i hi => (hle i hi).1⟩, fun hne => ?_⟩
  · have := d2 _ (Nat.le_refl _)
    have h0 : V / 4 ^ (w 98).toNatClampNeg = 0 := Nat.div_eq_of_lt hv.1
    rw [h0] at this
    exact (Nat.div_eq_zero_iff_lt (pow4_pos _)).mp this
  · obtain ⟨i, hi⟩ := Nat.exists_testBit_of_ne_zero hne
    obtain ⟨h1, h2⟩ := hb i hi
    unfold yrem4
    refine ynf_lt (k := i) _ h1 (fun j hj => (hle j hj).2) ?_
    rw [d1, if_pos ⟨h1, hi⟩]
    omega
/-- over the sets of open works, the greatest first -/
def yscan (F : Nat → Option Int32) (O : Nat) : Nat → Nat → Int32 → Int32
  | 0, _, b => b
  | f + 1, S, b => if S = 0 then b else yscan F O f ((S - 1) &&& O) (match F S with
    | none => b
    | some far => if far = -1 then b else if b = -1 ∨ far + 1 < b then far + 1 else b)
theorem yscan_c {F G : Nat → Option Int32} {O : Nat} (h : ∀ S, S ≠ 0 → ysub S O → F S = G S) : ∀ f S b, ysub S O → yscan F O f S b = yscan G O f S b
  | 0, _, _, _ => rfl
  | f + 1, S, b, hs => by
    unfold yscan
    by_cases c : S = 0
    · rw [if_pos c, if_pos c]
    · rw [if_neg c, if_neg c, h S c hs]
      exact yscan_c h f _ _ ysub_and
def yfarS (w tg : Nat → Int32) (G : Nat → Int32) (V : Nat) (S : Nat) : Option Int32 := if tg S = 0 ∨ yfull tg (w 98).toNatClampNeg S (yopn w V) = false then none else some (G (yadd S V (w 98).toNatClampNeg))
def yfar (w tg : Nat → Int32) : Nat → Nat → Int32
  | 0, V => if V = yVE w then 0 else -1
  | n + 1, V => if V = yVE w then 0 else yscan (yfarS w tg (yfar w tg n) V) (yopn w V) 256 (yopn w V) (-1)
theorem yopn_0 {w : Nat → Int32} {V : Nat} (hy : yhull w) (hW : (w 98).toNatClampNeg ≤ 8) (hv : yvalid w V) (h : yrem4 w V = 0) : yopn w V = 0 := by
  have hz : ∀ (f : Nat → Nat) n, ynf f n = 0 → ∀ i, i < n → f i = 0 := by
    intro f n
    induction n with
    | zero => intro _ i hi; omega
    | succ n ih =>
      intro h i hi
      have h : ynf f n + f n = 0 := h
      by_cases c : i = n
      · subst c; omega
      · exact ih (by omega) i (by omega)
  by_cases c : yopn w V = 0
  · exact c
  · obtain ⟨i, hi⟩ := Nat.exists_testBit_of_ne_zero c
    obtain ⟨h1, h2⟩ := yopn_b hy hW hv hi
    have := hz _ _ h i h1
    omega
theorem yfar_n {w tg : Nat → Int32} (hy : yhull w) (hW : (w 98).toNatClampNeg ≤ 8) : ∀ n m V, yvalid w V → yrem4 w V ≤ n → yrem4 w V ≤ m → yfar w tg n V = yfar w tg m V := by
  have h0 : ∀ m V, yvalid w V → yrem4 w V = 0 → yfar w tg m V = if V = yVE w then 0 else -1 := by
    intro m V hv h
    cases m with
    | zero => rfl
    | succ m =>
      unfold yfar
      rw [yopn_0 hy hW hv h]
      rfl
  intro n
  induction n with
  | zero =>
    intro m V hv hn hm2
    rw [h0 m V hv (by omega)]
    rfl
  | succ n ih =>
    intro m V hv hn hm2
    cases m with
    | zero =>
      rw [h0 (n + 1) V hv (by omega)]
      rfl
    | succ m =>
      show (if V = yVE w then 0 else yscan (yfarS w tg (yfar w tg n) V) (yopn w V) 256 (yopn w V) (-1)) = (if V = yVE w then 0 else yscan (yfarS w tg (yfar w tg m) V) (yopn w V) 256 (yopn w V) (-1))
      rw [yscan_c (G := yfarS w tg (yfar w tg m) V) (fun S hS hs => by
        unfold yfarS
        obtain ⟨g1, g2⟩ := yadd_ok hy hW hv hs
        have := g2 hS
        rw [ih m _ g1 (by omega) (by omega)]) _ _ _ (fun i h => h)]
/-- the fewest hours from a state to the end -/
def yfarV (w tg : Nat → Int32) (V : Nat) : Int32 := yfar w tg 24 V
theorem yrem4_le {w : Nat → Int32} {V : Nat} (hy : yhull w) (hW : (w 98).toNatClampNeg ≤ 8) : yrem4 w V ≤ 24 := by
  unfold yrem4
  have : ∀ n, n ≤ (w 98).toNatClampNeg → ynf (fun i => ytk w i - V / 4 ^ i % 4) n ≤ 3 * n := by
    intro n
    induction n with
    | zero => intro _; exact Nat.le_refl _
    | succ n ih =>
      intro h
      have := ih (by omega)
      have := (yhull_tk hy hW (show n < _ by omega)).2.2.2
      show ynf _ n + (ytk w n - V / 4 ^ n % 4) ≤ _
      omega
  have := this _ (Nat.le_refl _)
  omega
theorem yfarV_eq {w tg : Nat → Int32} (hy : yhull w) (hW : (w 98).toNatClampNeg ≤ 8) {V : Nat} (hv : yvalid w V) : yfarV w tg V = if V = yVE w then 0 else yscan (yfarS w tg (yfarV w tg) V) (yopn w V) 256 (yopn w V) (-1) := by
  unfold yfarV
  rw [yfar_n hy hW 24 25 V hv (yrem4_le hy hW) (by have := yrem4_le (V := V) hy hW; omega)]
  rfl
