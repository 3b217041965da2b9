/-! ===== the machine over ToolUnion's state ===== -/
def xput (b : Nat) (s : zX) (ci j : Nat) (v : Value) (a : Nat) (k : zX → Prop) : Prop :=
  (a = b ∧ ci = 1 ∧ ((∃ n, v = .int n ∧ xfk.getD j 9 = 0 ∧ k (xI s j n)) ∨ ∃ o, v = va_rf o ∧ xfk.getD j 9 = 1 ∧ k (xV s j o))) ∨
  (∃ y, y < 3 ∧ a = b + xyo y ∧ ci = 2 ∧ ∃ n, v = .int n ∧ 6 ≤ j ∧ j < 15 ∧ (j = 10 → n = 0 ∨ n = 1) ∧ k (xI s (xyi y j) n)) ∨
  (xfree b a ∧ robj (s.g a) fun c fs => c = ci ∧ j < fs.length ∧ narrow (rty ci j) v = v ∧ fits (rty ci j) v = true ∧ (rT ci j).2.2.2 = false ∧ k (xg s a (.inr (ci, fs.set j v))))
def xst (E : zEnv) (b : Nat) (s : zX) (t : Nat) (j v : Int32) (a : Nat) (k : zX → Prop) : Prop :=
  (∃ h N, xarr.getD h none = some (t, N) ∧ a = b + h ∧ vp_in j N ∧ k (xA s h j.toNatClampNeg v)) ∨
  (xfree b a ∧ rints E (s.g a) t fun N f => vp_in j N ∧ k (xg s a (.inl (E.dA t, N, .inl (upd f j.toNatClampNeg v)))))
def xhp (E : zEnv) (b : Nat) (T : rTb) (Γ : zΓ zX) (i : Instr) (st : List Value) (s : zX) (k : List Value → zX → Prop) : Prop := match i with
  | .getfield x => match zlk T.1 x, st with
    | some q, .ref a :: r => robj (xG E b s a) fun c fs => c = q.1 ∧ ∃ v, fs[q.2.1]? = some v ∧ k (v :: r) s
    | _, _ => False
  | .putfield x => match zlk T.1 x, st with
    | some q, v :: .ref a :: r => q.2.2 = false ∧ xput b s q.1 q.2.1 v a (k r)
    | _, _ => False
  | .getstatic x => match zlk T.2.1 x with
    | some j => k (zstv E j :: st) s
    | none => False
  | .ldc x => match zlk T.2.2.1 x with
    | some v => k (.int v :: st) s
    | none => match zlk T.2.2.2 x with
      | some j => k (.ref (E.aK j) :: st) s
      | none => False
  | .ldc_w x => match zlk T.2.2.1 x with
    | some v => k (.int v :: st) s
    | none => match zlk T.2.2.2 x with
      | some j => k (.ref (E.aK j) :: st) s
      | none => False
  | .iaload => match st with
    | .int j :: .ref a :: r => rints E (xG E b s a) 0 fun N f => vp_in j N ∧ k (.int (f j.toNatClampNeg) :: r) s
    | _ => False
  | .baload => match st with
    | .int j :: .ref a :: r => ∃ t, (t = 1 ∨ t = 2) ∧ rints E (xG E b s a) t fun N f => vp_in j N ∧ k (.int (f j.toNatClampNeg) :: r) s
    | _ => False
  | .iastore => match st with
    | .int v :: .int j :: .ref a :: r => xst E b s 0 j v a (k r)
    | _ => False
  | .bastore => match st with
    | .int v :: .int j :: .ref a :: r => ((v = 0 ∨ v = 1) ∧ xst E b s 1 j v a (k r)) ∨ xst E b s 2 j v.toInt8.toInt32 a (k r)
    | _ => False
  | .aaload => match st with
    | .int j :: .ref a :: r => rrefs E (xG E b s a) fun N f => vp_in j N ∧ k (va_rf (f j.toNatClampNeg) :: r) s
    | _ => False
  | .arraylength => match st with
    | .ref a :: r => rlen E (xG E b s a) fun N => k (.int (Int32.ofNat N) :: r) s
    | _ => False
  | .invokestatic x => rcall Γ x false st s k
  | .invokevirtual x => rcall Γ x true st s k
  | _ => False
theorem xput_mono {b : Nat} {s : zX} {ci j : Nat} {v : Value} {a : Nat} {k k' : zX → Prop} (h : ∀ u, k u → k' u) (q : xput b s ci j v a k) : xput b s ci j v a k' := by
  rcases q with ⟨e1, e2, q⟩ | ⟨y, hy, e1, e2, n, e3, h6, h15, h10, q⟩ | ⟨hf, q⟩
  · refine Or.inl ⟨e1, e2, ?_⟩
    rcases q with ⟨n, e3, e4, q⟩ | ⟨o, e3, e4, q⟩
    · exact Or.inl ⟨n, e3, e4, h _ q⟩
    · exact Or.inr ⟨o, e3, e4, h _ q⟩
  · exact Or.inr (Or.inl ⟨y, hy, e1, e2, n, e3, h6, h15, h10, h _ q⟩)
  · exact Or.inr (Or.inr ⟨hf, robj_mono (fun c fs q => ⟨q.1, q.2.1, q.2.2.1, q.2.2.2.1, q.2.2.2.2.1, h _ q.2.2.2.2.2⟩) q⟩)
theorem xst_mono {E : zEnv} {b : Nat} {s : zX} {t : Nat} {j v : Int32} {a : Nat} {k k' : zX → Prop} (h : ∀ u, k u → k' u) (q : xst E b s t j v a k) : xst E b s t j v a k' := by
  rcases q with ⟨hh, N, e1, e2, e3, q⟩ | ⟨hf, q⟩
  · exact Or.inl ⟨hh, N, e1, e2, e3, h _ q⟩
  · exact Or.inr ⟨hf, rints_mono (fun N f q => ⟨q.1, h _ q.2⟩) q⟩
theorem xhp_mono {E : zEnv} {b : Nat} {T : rTb} {Γ : zΓ zX} (hΓ : ∀ q ∈ Γ, zTm q.2.2.2) : zMono (xhp E b T Γ) := by
  intro i st s k k' hk h
  cases i <;> dsimp only [xhp] at h ⊢
  case getfield x =>
    split at h
    · exact robj_mono (fun c fs q => ⟨q.1, q.2.choose, q.2.choose_spec.1, hk _ _ q.2.choose_spec.2⟩) h
    · exact h
  case putfield x =>
    split at h
    · exact ⟨h.1, xput_mono (fun u q => hk _ _ q) h.2⟩
    · exact h
  case getstatic x =>
    split at h
    · exact hk _ _ h
    · exact h
  case ldc x =>
    split at h
    · exact hk _ _ h
    · split at h
      · exact hk _ _ h
      · exact h
  case ldc_w x =>
    split at h
    · exact hk _ _ h
    · split at h
      · exact hk _ _ h
      · exact h
  case iaload =>
    split at h
    · exact rints_mono (fun N f q => ⟨q.1, hk _ _ q.2⟩) h
    · exact h
  case baload =>
    split at h
    · obtain ⟨t, ht, h⟩ := h
      exact ⟨t, ht, rints_mono (fun N f q => ⟨q.1, hk _ _ q.2⟩) h⟩
    · exact h
  case iastore =>
    split at h
    · exact xst_mono (fun u q => hk _ _ q) h
    · exact h
  case bastore =>
    split at h
    · exact h.imp (fun q => ⟨q.1, xst_mono (fun u q => hk _ _ q) q.2⟩) (xst_mono (fun u q => hk _ _ q))
    · exact h
  case aaload =>
    split at h
    · exact rrefs_mono (fun N f q => ⟨q.1, hk _ _ q.2⟩) h
    · exact h
  case arraylength =>
    split at h
    · exact rlen_mono (fun N q => hk _ _ q) h
    · exact h
  case invokestatic x => exact rcall_mono hΓ hk h
  case invokevirtual x => exact rcall_mono hΓ hk h
  all_goals exact h
/-! the raw picture of a state -/
def xσ (E : zEnv) (b : Nat) (s : zX) : zσ := (s.n, xG E b s)
theorem xσ_M {E : zEnv} {b : Nat} {s : zX} {m : Nat → zM} : xσ E b (xM s m) = xσ E b s := rfl
/-- a contract over ToolUnion's state as one over the known cells -/
def xlf (E : zEnv) (b : Nat) (T : zT zX) : zT zσ := fun args σ K => ∃ s : zX, σ = xσ E b s ∧ T args s fun v u => K v (xσ E b u)
theorem xlf_m {E : zEnv} {b : Nat} {T : zT zX} (h : zTm T) : zTm (xlf E b T) := by
  rintro as s K K' hk ⟨s, rfl, q⟩
  exact ⟨s, rfl, h _ _ _ _ (fun v u => hk _ _) q⟩
def xΓr (E : zEnv) (b : Nat) (Γ : zΓ zX) : zΓ zσ := Γ.map fun q => (q.1, q.2.1, q.2.2.1, xlf E b q.2.2.2)
theorem xΓr_lk {E : zEnv} {b : Nat} {Γ : zΓ zX} {i : Nat} {q : Bool × Nat × zT zX} (h : zlk Γ i = some q) : zlk (xΓr E b Γ) i = some (q.1, q.2.1, xlf E b q.2.2) := by
  induction Γ with
  | nil => cases h
  | cons x t ih =>
    unfold xΓr
    rw [List.map_cons]
    unfold zlk at h ⊢
    dsimp only
    by_cases hi : i = x.1
    · rw [if_pos hi] at h ⊢
      cases h
      rfl
    · rw [if_neg hi] at h ⊢
      exact ih h
theorem xput_r {E : zEnv} {b : Nat} {s : zX} {ci j : Nat} {v : Value} {a : Nat} {k : zX → Prop} {k' : zσ → Prop} (h : ∀ u, k u → k' (xσ E b u)) (q : xput b s ci j v a k) :
    robj (xG E b s a) fun c fs => c = ci ∧ j < fs.length ∧ narrow (rty ci j) v = v ∧ fits (rty ci j) v = true ∧ ((rT ci j).2.2.2 = true → false = true) ∧ k' (s.n, zup (xG E b s) a (.inr (ci, fs.set j v))) := by
  rcases q with ⟨rfl, rfl, q⟩ | ⟨y, hy, rfl, rfl, n, rfl, h6, h15, h10, q⟩ | ⟨hf, q⟩
  · rw [xG_0]
    rcases q with ⟨n, rfl, e4, q⟩ | ⟨o, rfl, e4, q⟩
    · have hj := xfk_lt e4 (by decide)
      have hk : ∀ j, j < 58 → xfk.getD j 9 = 0 → rty 1 j = .int ∧ (rT 1 j).2.2.2 = false := by decide +kernel
      obtain ⟨k1, k2⟩ := hk j hj e4
      refine ⟨rfl, by rw [xobj_len]; exact hj, by rw [k1]; rfl, by rw [k1]; rfl, fun w => (by rw [k2] at w; cases w), ?_⟩
      rw [← xG_I e4]
      exact h _ q
    · have hj := xfk_lt e4 (by decide)
      have hk : ∀ j, j < 58 → xfk.getD j 9 = 1 → ((∃ C, rty 1 j = .object C) ∨ ∃ t, rty 1 j = .array t) ∧ (rT 1 j).2.2.2 = false := by
        intro j hj hk
        have hm : ∀ j, j < 58 → xfk.getD j 9 = 1 → j = 6 ∨ j = 7 ∨ j = 8 ∨ j = 9 ∨ j = 16 ∨ j = 17 ∨ j = 18 ∨ j = 19 ∨ j = 54 ∨ j = 55 ∨ j = 56 ∨ j = 57 := by decide
        rcases hm j hj hk with rfl | rfl | rfl | rfl | rfl | rfl | rfl | rfl | rfl | rfl | rfl | rfl <;> exact ⟨by first | exact Or.inl ⟨_, rfl⟩ | exact Or.inr ⟨_, rfl⟩, rfl⟩
      obtain ⟨k1, k2⟩ := hk j hj e4
      refine ⟨rfl, by rw [xobj_len]; exact hj, ?_, ?_, fun w => (by rw [k2] at w; cases w), ?_⟩
      · rcases k1 with ⟨C, k1⟩ | ⟨t, k1⟩ <;> rw [k1] <;> cases o <;> rfl
      · rcases k1 with ⟨C, k1⟩ | ⟨t, k1⟩ <;> rw [k1] <;> cases o <;> rfl
      · rw [← xG_V e4]
        exact h _ q
  · rw [xG_y hy]
    have hk : ∀ j, j < 16 → 6 ≤ j → j < 15 → rty 2 j = (if j = 10 then .boolean else .int) ∧ (rT 2 j).2.2.2 = false := by decide +kernel
    obtain ⟨k1, k2⟩ := hk j (by omega) h6 h15
    refine ⟨rfl, by rw [xyobj_len]; omega, ?_, ?_, fun w => (by rw [k2] at w; cases w), ?_⟩
    · rw [k1]
      by_cases c10 : j = 10
      · rw [if_pos c10]; exact (znar_b (h10 c10)).1
      · rw [if_neg c10]; rfl
    · rw [k1]
      by_cases c10 : j = 10
      · rw [if_pos c10]; exact (znar_b (h10 c10)).2
      · rw [if_neg c10]; rfl
    · rw [← xG_yI hy h6 h15]
      exact h _ q
  · rw [xG_free hf]
    refine robj_mono (fun c fs q => ⟨q.1, q.2.1, q.2.2.1, q.2.2.2.1, fun w => (by rw [q.2.2.2.2.1] at w; cases w), ?_⟩) q
    have := h _ q.2.2.2.2.2
    unfold xσ at this
    rw [xG_g hf] at this
    exact this
theorem xst_r {E : zEnv} {b : Nat} {s : zX} {t : Nat} {j v : Int32} {a : Nat} {k : zX → Prop} {k' : zσ → Prop} (h : ∀ u, k u → k' (xσ E b u)) (q : xst E b s t j v a k) :
    rints E (xG E b s a) t fun N f => vp_in j N ∧ k' (s.n, zup (xG E b s) a (.inl (E.dA t, N, .inl (upd f j.toNatClampNeg v)))) := by
  rcases q with ⟨hh, N, e1, rfl, e3, q⟩ | ⟨hf, q⟩
  · rw [xG_A e1]
    refine ⟨rfl, e3, ?_⟩
    rw [← xG_AA e1]
    exact h _ q
  · rw [xG_free hf]
    refine rints_mono (fun N f q => ⟨q.1, ?_⟩) q
    have := h _ q.2
    unfold xσ at this
    rw [xG_g hf] at this
    exact this
/-- the machine over the state is one over the cells -/
theorem xhp_r {E : zEnv} {b : Nat} {T : rTb} {Γ : zΓ zX} {i : Instr} {st : List Value} {s : zX} {k : List Value → zX → Prop} {k' : List Value → zσ → Prop} (hΓ : ∀ q ∈ Γ, zTm q.2.2.2) (hk : ∀ st u, k st u → k' st (xσ E b u)) (h : xhp E b T Γ i st s k) : rhp E T false (xΓr E b Γ) i st (xσ E b s) k' := by
  cases i <;> dsimp only [xhp] at h <;> dsimp only [rhp]
  case getfield x =>
    split at h
    · rename_i _ q a r hj
      rw [hj]
      exact robj_mono (fun c fs q => ⟨q.1, q.2.choose, q.2.choose_spec.1, hk _ _ q.2.choose_spec.2⟩) h
    · exact h.elim
  case putfield x =>
    split at h
    · rename_i _ q v a r hj
      rw [hj]
      exact ⟨h.1, xput_r (fun u q => hk _ _ q) h.2⟩
    · exact h.elim
  case getstatic x =>
    split at h
    · rename_i j hj
      rw [hj]
      exact hk _ _ h
    · exact h.elim
  case ldc x =>
    split at h
    · rename_i v hj
      rw [hj]
      exact hk _ _ h
    · rename_i hj
      rw [hj]
      split at h
      · rename_i j hj2
        rw [hj2]
        exact hk _ _ h
      · exact h.elim
  case ldc_w x =>
    split at h
    · rename_i v hj
      rw [hj]
      exact hk _ _ h
    · rename_i hj
      rw [hj]
      split at h
      · rename_i j hj2
        rw [hj2]
        exact hk _ _ h
      · exact h.elim
  case iaload =>
    split at h
    · exact rints_mono (fun N f q => ⟨q.1, hk _ _ q.2⟩) h
    · exact h.elim
  case baload =>
    split at h
    · obtain ⟨t, ht, h⟩ := h
      exact ⟨t, ht, rints_mono (fun N f q => ⟨q.1, hk _ _ q.2⟩) h⟩
    · exact h.elim
  case iastore =>
    split at h
    · exact xst_r (fun u q => hk _ _ q) h
    · exact h.elim
  case bastore =>
    split at h
    · rcases h with ⟨hv, h⟩ | h
      · exact Or.inl (rints_mono (fun N f q => ⟨q.1, hv, q.2⟩) (xst_r (k' := k' _) (fun u q => hk _ _ q) h))
      · exact Or.inr (xst_r (fun u q => hk _ _ q) h)
    · exact h.elim
  case aaload =>
    split at h
    · exact rrefs_mono (fun N f q => ⟨q.1, hk _ _ q.2⟩) h
    · exact h.elim
  case arraylength =>
    split at h
    · exact rlen_mono (fun N q => hk _ _ q) h
    · exact h.elim
  case invokestatic x =>
    unfold rcall at h ⊢
    split at h
    · rename_i q hq
      rw [xΓr_lk hq]
      refine ⟨h.1, ?_⟩
      have h := h.2
      dsimp only
      split at h
      · rename_i r hr
        exact ⟨h.1, s, rfl, hΓ _ (zlk_mem hq) _ _ _ _ (fun v u => hk _ _) h.2⟩
      · exact h.elim
    · exact h.elim
  case invokevirtual x =>
    unfold rcall at h ⊢
    split at h
    · rename_i q hq
      rw [xΓr_lk hq]
      refine ⟨h.1, ?_⟩
      have h := h.2
      dsimp only
      split at h
      · rename_i r hr
        exact ⟨h.1, s, rfl, hΓ _ (zlk_mem hq) _ _ _ _ (fun v u => hk _ _) h.2⟩
      · exact h.elim
    · exact h.elim
  all_goals exact h.elim
