/-! ===== a machine over the known cells alone: ToolUnion's classes, nothing new on the heap ===== -/
/-- an array of class dA t, of length N: what it holds -/
def rints (E : zEnv) (o : Option va_E) (t : Nat) (k : Nat → (Nat → Int32) → Prop) : Prop := match o with
  | some (.inl (c, N, .inl f)) => c = E.dA t ∧ k N f
  | _ => False
def rrefs (E : zEnv) (o : Option va_E) (k : Nat → (Nat → Option Nat) → Prop) : Prop := match o with
  | some (.inl (c, N, .inr (.inr (.inr (.inr f))))) => (∃ t, 3 ≤ t ∧ t < 10 ∧ c = E.dA t) ∧ k N f
  | _ => False
def rlen (E : zEnv) (o : Option va_E) (k : Nat → Prop) : Prop := match o with
  | some (.inl (c, x)) => (∃ t, t < 10 ∧ c = E.dA t) ∧ k x.1
  | _ => False
def robj (o : Option va_E) (k : Nat → List Value → Prop) : Prop := match o with
  | some (.inr (c, fs)) => k c fs
  | _ => False
def rcall {σ : Type} (Γ : zΓ σ) (i : Nat) (v : Bool) (st : List Value) (s : σ) (k : List Value → σ → Prop) : Prop := match zlk Γ i with
  | some q => q.1 = v ∧ match zpop q.2.1 [] st with
    | some r => zfew r.2 8 = true ∧ q.2.2 r.1 s (fun v s' => k (v.toList ++ r.2) s')
    | none => False
  | none => False
def rhp (E : zEnv) (T : rTb) (ini : Bool) (Γ : zΓ zσ) (i : Instr) (st : List Value) (s : zσ) (k : List Value → zσ → Prop) : Prop := match i with
  | .getfield x => match zlk T.1 x, st with
    | some q, .ref a :: r => robj (s.2 a) fun c fs => c = q.1 ∧ ∃ v, fs[q.2.1]? = some v ∧ k (v :: r) s
    | _, _ => False
  | .putfield x => match zlk T.1 x, st with
    | some q, v :: .ref a :: r => q.2.2 = false ∧ robj (s.2 a) fun c fs => c = q.1 ∧ q.2.1 < fs.length ∧ narrow (rty q.1 q.2.1) v = v ∧ fits (rty q.1 q.2.1) v = true ∧ ((rT q.1 q.2.1).2.2.2 = true → ini = true) ∧ k r (s.1, zup s.2 a (.inr (q.1, fs.set q.2.1 v)))
    | _, _ => False
  | .getstatic x => match zlk T.2.1 x with
    | some j => k (zstv E j :: st) s
    | none => False
  | .ldc x => match zlk T.2.2.1 x with
    | some v => k (.int v :: st) s
    | none => match zlk T.2.2.2 x with
      | some j => k (.ref (E.aK j) :: st) s
      | none => False
  | .ldc_w x => match zlk T.2.2.1 x with
    | some v => k (.int v :: st) s
    | none => match zlk T.2.2.2 x with
      | some j => k (.ref (E.aK j) :: st) s
      | none => False
  | .iaload => match st with
    | .int j :: .ref a :: r => rints E (s.2 a) 0 fun N f => vp_in j N ∧ k (.int (f j.toNatClampNeg) :: r) s
    | _ => False
  | .baload => match st with
    | .int j :: .ref a :: r => ∃ t, (t = 1 ∨ t = 2) ∧ rints E (s.2 a) t fun N f => vp_in j N ∧ k (.int (f j.toNatClampNeg) :: r) s
    | _ => False
  | .iastore => match st with
    | .int v :: .int j :: .ref a :: r => rints E (s.2 a) 0 fun N f => vp_in j N ∧ k r (s.1, zup s.2 a (.inl (E.dA 0, N, .inl (upd f j.toNatClampNeg v))))
    | _ => False
  | .bastore => match st with
    | .int v :: .int j :: .ref a :: r => (rints E (s.2 a) 1 fun N f => vp_in j N ∧ (v = 0 ∨ v = 1) ∧ k r (s.1, zup s.2 a (.inl (E.dA 1, N, .inl (upd f j.toNatClampNeg v))))) ∨ (rints E (s.2 a) 2 fun N f => vp_in j N ∧ k r (s.1, zup s.2 a (.inl (E.dA 2, N, .inl (upd f j.toNatClampNeg v.toInt8.toInt32)))))
    | _ => False
  | .aaload => match st with
    | .int j :: .ref a :: r => rrefs E (s.2 a) fun N f => vp_in j N ∧ k (va_rf (f j.toNatClampNeg) :: r) s
    | _ => False
  | .arraylength => match st with
    | .ref a :: r => rlen E (s.2 a) fun N => k (.int (Int32.ofNat N) :: r) s
    | _ => False
  | .invokestatic x => rcall Γ x false st s k
  | .invokevirtual x => rcall Γ x true st s k
  | _ => False
theorem rints_mono {E : zEnv} {o : Option va_E} {t : Nat} {k k' : Nat → (Nat → Int32) → Prop} (h : ∀ N f, k N f → k' N f) (q : rints E o t k) : rints E o t k' := by
  unfold rints at *
  split at q
  · exact ⟨q.1, h _ _ q.2⟩
  · exact q
theorem rrefs_mono {E : zEnv} {o : Option va_E} {k k' : Nat → (Nat → Option Nat) → Prop} (h : ∀ N f, k N f → k' N f) (q : rrefs E o k) : rrefs E o k' := by
  unfold rrefs at *
  split at q
  · exact ⟨q.1, h _ _ q.2⟩
  · exact q
theorem rlen_mono {E : zEnv} {o : Option va_E} {k k' : Nat → Prop} (h : ∀ N, k N → k' N) (q : rlen E o k) : rlen E o k' := by
  unfold rlen at *
  split at q
  · exact ⟨q.1, h _ q.2⟩
  · exact q
theorem robj_mono {o : Option va_E} {k k' : Nat → List Value → Prop} (h : ∀ c fs, k c fs → k' c fs) (q : robj o k) : robj o k' := by
  unfold robj at *
  split at q
  · exact h _ _ q
  · exact q
theorem rints_some {E : zEnv} {o : Option va_E} {t : Nat} {k : Nat → (Nat → Int32) → Prop} (q : rints E o t k) : ∃ N f, o = some (.inl (E.dA t, N, .inl f)) ∧ k N f := by
  unfold rints at q
  split at q
  · obtain ⟨rfl, h⟩ := q
    exact ⟨_, _, rfl, h⟩
  · exact q.elim
theorem rrefs_some {E : zEnv} {o : Option va_E} {k : Nat → (Nat → Option Nat) → Prop} (q : rrefs E o k) : ∃ t N f, 3 ≤ t ∧ t < 10 ∧ o = some (.inl (E.dA t, N, .inr (.inr (.inr (.inr f))))) ∧ k N f := by
  unfold rrefs at q
  split at q
  · obtain ⟨⟨t, h1, h2, rfl⟩, h⟩ := q
    exact ⟨t, _, _, h1, h2, rfl, h⟩
  · exact q.elim
theorem rlen_some {E : zEnv} {o : Option va_E} {k : Nat → Prop} (q : rlen E o k) : ∃ t x, t < 10 ∧ o = some (.inl (E.dA t, x)) ∧ k x.1 := by
  unfold rlen at q
  split at q
  · obtain ⟨⟨t, h1, rfl⟩, h⟩ := q
    exact ⟨t, _, h1, rfl, h⟩
  · exact q.elim
theorem robj_some {o : Option va_E} {k : Nat → List Value → Prop} (q : robj o k) : ∃ c fs, o = some (.inr (c, fs)) ∧ k c fs := by
  unfold robj at q
  split at q
  · exact ⟨_, _, rfl, q⟩
  · exact q.elim
theorem rcall_mono {σ : Type} {Γ : zΓ σ} (hΓ : ∀ q ∈ Γ, zTm q.2.2.2) {i : Nat} {v : Bool} {st : List Value} {s : σ} {k k' : List Value → σ → Prop} (hk : ∀ st s, k st s → k' st s) (h : rcall Γ i v st s k) : rcall Γ i v st s k' := by
  unfold rcall at h ⊢
  split at h
  · rename_i q hq
    refine ⟨h.1, ?_⟩
    have h := h.2
    split at h
    · exact ⟨h.1, hΓ _ (zlk_mem hq) _ _ _ _ (fun v s => hk _ _) h.2⟩
    · exact h
  · exact h
theorem rhp_mono {E : zEnv} {T : rTb} {ini : Bool} {Γ : zΓ zσ} (hΓ : ∀ q ∈ Γ, zTm q.2.2.2) : zMono (rhp E T ini Γ) := by
  intro i st s k k' hk h
  cases i <;> dsimp only [rhp] at h ⊢
  case getfield x =>
    split at h
    · exact robj_mono (fun c fs q => ⟨q.1, q.2.choose, q.2.choose_spec.1, hk _ _ q.2.choose_spec.2⟩) h
    · exact h
  case putfield x =>
    split at h
    · exact ⟨h.1, robj_mono (fun c fs q => ⟨q.1, q.2.1, q.2.2.1, q.2.2.2.1, q.2.2.2.2.1, hk _ _ q.2.2.2.2.2⟩) h.2⟩
    · exact h
  case getstatic x =>
    split at h
    · exact hk _ _ h
    · exact h
  case ldc x =>
    split at h
    · exact hk _ _ h
    · split at h
      · exact hk _ _ h
      · exact h
  case ldc_w x =>
    split at h
    · exact hk _ _ h
    · split at h
      · exact hk _ _ h
      · exact h
  case iaload =>
    split at h
    · exact rints_mono (fun N f q => ⟨q.1, hk _ _ q.2⟩) h
    · exact h
  case baload =>
    split at h
    · obtain ⟨t, ht, h⟩ := h
      exact ⟨t, ht, rints_mono (fun N f q => ⟨q.1, hk _ _ q.2⟩) h⟩
    · exact h
  case iastore =>
    split at h
    · exact rints_mono (fun N f q => ⟨q.1, hk _ _ q.2⟩) h
    · exact h
  case bastore =>
    split at h
    · exact h.imp (rints_mono (fun N f q => ⟨q.1, q.2.1, hk _ _ q.2.2⟩)) (rints_mono (fun N f q => ⟨q.1, hk _ _ q.2⟩))
    · exact h
  case aaload =>
    split at h
    · exact rrefs_mono (fun N f q => ⟨q.1, hk _ _ q.2⟩) h
    · exact h
  case arraylength =>
    split at h
    · exact rlen_mono (fun N q => hk _ _ q) h
    · exact h
  case invokestatic x => exact rcall_mono hΓ hk h
  case invokevirtual x => exact rcall_mono hΓ hk h
  all_goals exact h
