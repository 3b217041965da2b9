/-! ===== rows for simp: the machine over ToolUnion's state ===== -/
theorem zone_ac_ne {σ : Type} {ret : Option FieldType} {hp : Instr → List Value → σ → (List Value → σ → Prop) → Prop} {K : Option Value → σ → Prop} {S : Nat → zL → List Value → σ → Prop} {cc : ByteArray} {pc t : Nat} {off : Int} {L : zL} {s : σ} {p q : Nat} {r : List Value} (hd : decode cc pc = .ok (.if_acmp .ne off, 3)) (h : (pc : Int) + off = (t : Int)) : zone ret hp K cc S pc L (.ref p :: .ref q :: r) s = (if q = p then S (pc + 3) L r s else S t L r s) := by
  rw [zone_of hd rfl]
  show ((∃ rx ry, Value.ref q = va_rf rx ∧ Value.ref p = va_rf ry) ∧ 0 ≤ (pc : Int) + off ∧ (if Value.ref q = Value.ref p then S (pc + 3) L r s else S ((pc : Int) + off).toNat L r s)) = _
  rw [h]
  have e : (Value.ref q = Value.ref p) = (q = p) := propext ⟨fun h => by cases h; rfl, fun h => by rw [h]⟩
  rw [Int.toNat_natCast]
  simp only [e]
  exact propext ⟨fun h => h.2.2, fun h => ⟨⟨some q, some p, rfl, rfl⟩, Int.natCast_nonneg t, h⟩⟩
theorem zone_ac_eq {σ : Type} {ret : Option FieldType} {hp : Instr → List Value → σ → (List Value → σ → Prop) → Prop} {K : Option Value → σ → Prop} {S : Nat → zL → List Value → σ → Prop} {cc : ByteArray} {pc t : Nat} {off : Int} {L : zL} {s : σ} {p q : Nat} {r : List Value} (hd : decode cc pc = .ok (.if_acmp .eq off, 3)) (h : (pc : Int) + off = (t : Int)) : zone ret hp K cc S pc L (.ref p :: .ref q :: r) s = (if q = p then S t L r s else S (pc + 3) L r s) := by
  rw [zone_of hd rfl]
  show ((∃ rx ry, Value.ref q = va_rf rx ∧ Value.ref p = va_rf ry) ∧ 0 ≤ (pc : Int) + off ∧ (if Value.ref q = Value.ref p then S ((pc : Int) + off).toNat L r s else S (pc + 3) L r s)) = _
  rw [h]
  have e : (Value.ref q = Value.ref p) = (q = p) := propext ⟨fun h => by cases h; rfl, fun h => by rw [h]⟩
  rw [Int.toNat_natCast]
  simp only [e]
  exact propext ⟨fun h => h.2.2, fun h => ⟨⟨some q, some p, rfl, rfl⟩, Int.natCast_nonneg t, h⟩⟩
theorem zone_nul {σ : Type} {ret : Option FieldType} {hp : Instr → List Value → σ → (List Value → σ → Prop) → Prop} {K : Option Value → σ → Prop} {S : Nat → zL → List Value → σ → Prop} {cc : ByteArray} {pc t : Nat} {off : Int} {L : zL} {s : σ} {o : Option Nat} {r : List Value} (hd : decode cc pc = .ok (.ifnull off, 3)) (h : (pc : Int) + off = (t : Int)) : zone ret hp K cc S pc L (va_rf o :: r) s = (if o = none then S t L r s else S (pc + 3) L r s) := by
  rw [zone_of hd rfl]
  cases o with
  | none =>
    show zjmp pc off (fun t => S t L r s) = _
    rw [if_pos rfl]
    exact zjmp_of (k := fun t => S t L r s) h
  | some a => rw [if_neg (by simp)]; rfl
theorem zone_nul_0 {σ : Type} {ret : Option FieldType} {hp : Instr → List Value → σ → (List Value → σ → Prop) → Prop} {K : Option Value → σ → Prop} {S : Nat → zL → List Value → σ → Prop} {cc : ByteArray} {pc t : Nat} {off : Int} {L : zL} {s : σ} {r : List Value} (hd : decode cc pc = .ok (.ifnull off, 3)) (h : (pc : Int) + off = (t : Int)) : zone ret hp K cc S pc L (.null :: r) s = S t L r s := (zone_nul (o := none) hd h).trans (if_pos rfl)
theorem zone_nul_1 {σ : Type} {ret : Option FieldType} {hp : Instr → List Value → σ → (List Value → σ → Prop) → Prop} {K : Option Value → σ → Prop} {S : Nat → zL → List Value → σ → Prop} {cc : ByteArray} {pc t : Nat} {off : Int} {L : zL} {s : σ} {a : Nat} {r : List Value} (hd : decode cc pc = .ok (.ifnull off, 3)) (h : (pc : Int) + off = (t : Int)) : zone ret hp K cc S pc L (.ref a :: r) s = S (pc + 3) L r s := (zone_nul (o := some a) hd h).trans (if_neg (by simp))
theorem zone_nnul {σ : Type} {ret : Option FieldType} {hp : Instr → List Value → σ → (List Value → σ → Prop) → Prop} {K : Option Value → σ → Prop} {S : Nat → zL → List Value → σ → Prop} {cc : ByteArray} {pc t : Nat} {off : Int} {L : zL} {s : σ} {o : Option Nat} {r : List Value} (hd : decode cc pc = .ok (.ifnonnull off, 3)) (h : (pc : Int) + off = (t : Int)) : zone ret hp K cc S pc L (va_rf o :: r) s = (if o = none then S (pc + 3) L r s else S t L r s) := by
  rw [zone_of hd rfl]
  cases o with
  | none => rw [if_pos rfl]; rfl
  | some a =>
    show zjmp pc off (fun t => S t L r s) = _
    rw [if_neg (by simp)]
    exact zjmp_of (k := fun t => S t L r s) h
theorem zone_nnul_0 {σ : Type} {ret : Option FieldType} {hp : Instr → List Value → σ → (List Value → σ → Prop) → Prop} {K : Option Value → σ → Prop} {S : Nat → zL → List Value → σ → Prop} {cc : ByteArray} {pc t : Nat} {off : Int} {L : zL} {s : σ} {r : List Value} (hd : decode cc pc = .ok (.ifnonnull off, 3)) (h : (pc : Int) + off = (t : Int)) : zone ret hp K cc S pc L (.null :: r) s = S (pc + 3) L r s := (zone_nnul (o := none) hd h).trans (if_pos rfl)
theorem zone_nnul_1 {σ : Type} {ret : Option FieldType} {hp : Instr → List Value → σ → (List Value → σ → Prop) → Prop} {K : Option Value → σ → Prop} {S : Nat → zL → List Value → σ → Prop} {cc : ByteArray} {pc t : Nat} {off : Int} {L : zL} {s : σ} {a : Nat} {r : List Value} (hd : decode cc pc = .ok (.ifnonnull off, 3)) (h : (pc : Int) + off = (t : Int)) : zone ret hp K cc S pc L (.ref a :: r) s = S t L r s := (zone_nnul (o := some a) hd h).trans (if_neg (by simp))
/-- which Yard -/
def xyn (b a : Nat) : Nat := (a - b - 28) / 7
/-- an object of class ci, outside the block -/
def xis (b : Nat) (s : zX) (ci a : Nat) : Prop := xfree b a ∧ ∃ fs, s.g a = some (.inr (ci, fs))
theorem xyo_inj {y z : Nat} : xyo y = xyo z ↔ y = z := by unfold xyo; omega
theorem xfree_at {b h : Nat} (hh : h ≤ 62) (hx : xhole h = false) : ¬ xfree b (b + h) := by
  unfold xfree
  rw [Nat.add_sub_cancel_left, hx]
  rintro (q | q)
  · exact q ⟨by omega, by omega⟩
  · cases q
theorem xfree_b {b : Nat} : ¬ xfree b b := xfree_at (h := 0) (by decide) rfl
theorem xyo_le {y : Nat} (hy : y < 3) : xyo y ≤ 62 ∧ xhole (xyo y) = false ∧ 28 ≤ xyo y := by
  rcases (by omega : y = 0 ∨ y = 1 ∨ y = 2) with rfl | rfl | rfl <;> decide
theorem xya_ok {y j : Nat} (hy : y < 3) (hj : j < 6) : xarr.getD (xya y j) none = some (0, if j = 4 then 4 else 8) ∧ xya y j ≤ 62 ∧ xhole (xya y j) = false := by
  rcases (by omega : y = 0 ∨ y = 1 ∨ y = 2) with rfl | rfl | rfl <;> rcases (by omega : j = 0 ∨ j = 1 ∨ j = 2 ∨ j = 3 ∨ j = 4 ∨ j = 5) with rfl | rfl | rfl | rfl | rfl | rfl <;> decide
section XDN
variable {E : zEnv} {b : Nat} {T : rTb} {Γ : zΓ zX} {r st : List Value} {s : zX} {k : List Value → zX → Prop}
theorem xgf {x a : Nat} {q : Nat × Nat × Bool} {v : Value} (h : zlk T.1 x = some q) (hv : xfld (xG E b s a) q.1 q.2.1 = some v) : xhp E b T Γ (.getfield x) (.ref a :: r) s k = k (v :: r) s := by
  unfold xhp
  dsimp only
  rw [h]
  dsimp only
  unfold xfld at hv
  unfold robj
  split at hv
  · rename_i c fs hg
    rw [hg]
    dsimp only
    split at hv
    · rename_i hc
      refine propext ⟨fun ⟨_, w, hw, hk⟩ => ?_, fun hk => ⟨hc, v, hv, hk⟩⟩
      rw [hv] at hw
      cases hw
      exact hk
    · cases hv
  · cases hv
theorem xfld_f {a ci j : Nat} {g : zG} {l : List Value} {v : Value} {u : zX} (hf : xfree b a) (ga : g a = some (.inr (ci, l))) (hv : l[j]? = some v) (hg : u.g = g) : xfld (xG E b u a) ci j = some v := by
  rw [xG_free hf, hg, ga]
  show (if ci = ci then l[j]? else none) = some v
  rw [if_pos rfl, hv]
/-- elements of arrays outside the block -/
theorem xral {a t N i : Nat} {g : zG} {f : Nat → Option Nat} {u : zX} (hf : xfree b a) (ga : g a = some (.inl (E.dA t, N, .inr (.inr (.inr (.inr f)))))) (h3 : 3 ≤ t ∧ t < 10) (hN : N < 2147483648) (hg : u.g = g) (hi : i < N) : xhp E b T Γ .aaload (.int (nI i) :: .ref a :: r) u k = k (va_rf (f i) :: r) u := by
  show rrefs E (xG E b u a) _ = _
  rw [xG_free hf, hg, ga]
  show ((∃ t', 3 ≤ t' ∧ t' < 10 ∧ E.dA t = E.dA t') ∧ vp_in (nI i) N ∧ k (va_rf (f (nI i).toNatClampNeg) :: r) u) = _
  rw [nI_clamp (by omega)]
  exact propext ⟨fun q => q.2.2, fun q => ⟨⟨t, h3.1, h3.2, rfl⟩, vp_in_nI hi hN, q⟩⟩
theorem xril {a N i : Nat} {g : zG} {f : Nat → Int32} {u : zX} (hf : xfree b a) (ga : g a = some (.inl (E.dA 0, N, .inl f))) (hN : N < 2147483648) (hg : u.g = g) (hi : i < N) : xhp E b T Γ .iaload (.int (nI i) :: .ref a :: r) u k = k (.int (f i) :: r) u := by
  show rints E (xG E b u a) 0 _ = _
  rw [xG_free hf, hg, ga]
  show (E.dA 0 = E.dA 0 ∧ vp_in (nI i) N ∧ k (.int (f (nI i).toNatClampNeg) :: r) u) = _
  rw [nI_clamp (by omega)]
  exact propext ⟨fun q => q.2.2, fun q => ⟨rfl, vp_in_nI hi hN, q⟩⟩
theorem xput_I {j : Nat} {n : Int32} {k : zX → Prop} (hj : xfk.getD j 9 = 0) : xput b s 1 j (.int n) b k = k (xI s j n) := by
  refine propext ⟨?_, fun h => Or.inl ⟨rfl, rfl, Or.inl ⟨n, rfl, hj, h⟩⟩⟩
  rintro (⟨-, -, ⟨m, h1, -, h2⟩ | ⟨q, h1, h2, -⟩⟩ | ⟨y, -, -, h, -⟩ | ⟨h, -⟩)
  · cases h1; exact h2
  · rw [hj] at h2; cases h2
  · cases h
  · exact absurd h xfree_b
theorem va_rf_inj {p q : Option Nat} (h : va_rf p = va_rf q) : p = q := by
  cases p <;> cases q <;> first | rfl | (cases h; rfl) | (cases h; done)
theorem xput_V {j : Nat} {q : Option Nat} {k : zX → Prop} (hj : xfk.getD j 9 = 1) : xput b s 1 j (va_rf q) b k = k (xV s j q) := by
  refine propext ⟨?_, fun h => Or.inl ⟨rfl, rfl, Or.inr ⟨q, rfl, hj, h⟩⟩⟩
  rintro (⟨-, -, ⟨m, h1, h2, -⟩ | ⟨p, h1, -, h2⟩⟩ | ⟨y, -, -, h, -⟩ | ⟨h, -⟩)
  · rw [hj] at h2; cases h2
  · cases va_rf_inj h1; exact h2
  · cases h
  · exact absurd h xfree_b
theorem xput_Y {y j : Nat} {n : Int32} {k : zX → Prop} (hy : y < 3) (h6 : 6 ≤ j) (h15 : j < 15) (h10 : j ≠ 10) : xput b s 2 j (.int n) (b + xyo y) k = k (xI s (xyi y j) n) := by
  refine propext ⟨?_, fun h => Or.inr (Or.inl ⟨y, hy, rfl, rfl, n, rfl, h6, h15, fun q => absurd q h10, h⟩)⟩
  rintro (⟨-, h, -⟩ | ⟨z, hz, h1, -, m, h2, -, -, -, h3⟩ | ⟨h, -⟩)
  · cases h
  · cases h2
    have : z = y := xyo_inj.mp (Nat.add_left_cancel h1).symm
    subst this
    exact h3
  · exact absurd h (xfree_at (xyo_le hy).1 (xyo_le hy).2.1)
theorem xput_YB {y : Nat} {n : Int32} {k : zX → Prop} (hy : y < 3) : xput b s 2 10 (.int n) (b + xyo y) k = ((n = 0 ∨ n = 1) ∧ k (xI s (xyi y 10) n)) := by
  refine propext ⟨?_, fun h => Or.inr (Or.inl ⟨y, hy, rfl, rfl, n, rfl, by decide, by decide, fun q => h.1, h.2⟩)⟩
  rintro (⟨-, h, -⟩ | ⟨z, hz, h1, -, m, h2, -, -, h4, h3⟩ | ⟨h, -⟩)
  · cases h
  · cases h2
    have : z = y := xyo_inj.mp (Nat.add_left_cancel h1).symm
    subst this
    exact ⟨h4 rfl, h3⟩
  · exact absurd h (xfree_at (xyo_le hy).1 (xyo_le hy).2.1)
theorem xpf {x a : Nat} {ci j : Nat} {v : Value} (h : zlk T.1 x = some (ci, j, false)) : xhp E b T Γ (.putfield x) (v :: .ref a :: r) s k = xput b s ci j v a (k r) := by
  show (match zlk T.1 x, v :: .ref a :: r with
    | some q, v :: .ref a :: r => q.2.2 = false ∧ xput b s q.1 q.2.1 v a (k r)
    | _, _ => False) = _
  rw [h]
  exact propext ⟨fun h => h.2, fun h => ⟨rfl, h⟩⟩
theorem xgs {x j : Nat} (h : zlk T.2.1 x = some j) : xhp E b T Γ (.getstatic x) st s k = k (zstv E j :: st) s := by
  show (match zlk T.2.1 x with
    | some j => k (zstv E j :: st) s
    | none => False) = _
  rw [h]
theorem xci {x : Nat} {v : Int32} (h : zlk T.2.2.1 x = some v) : xhp E b T Γ (.ldc x) st s k = k (.int v :: st) s := by
  show (match zlk T.2.2.1 x with
    | some v => k (.int v :: st) s
    | none => match zlk T.2.2.2 x with
      | some j => k (.ref (E.aK j) :: st) s
      | none => False) = _
  rw [h]
theorem xcs {x j : Nat} (h1 : zlk T.2.2.1 x = none) (h : zlk T.2.2.2 x = some j) : xhp E b T Γ (.ldc x) st s k = k (.ref (E.aK j) :: st) s := by
  show (match zlk T.2.2.1 x with
    | some v => k (.int v :: st) s
    | none => match zlk T.2.2.2 x with
      | some j => k (.ref (E.aK j) :: st) s
      | none => False) = _
  rw [h1, h]
theorem xciw {x : Nat} {v : Int32} (h : zlk T.2.2.1 x = some v) : xhp E b T Γ (.ldc_w x) st s k = k (.int v :: st) s := by
  show (match zlk T.2.2.1 x with
    | some v => k (.int v :: st) s
    | none => match zlk T.2.2.2 x with
      | some j => k (.ref (E.aK j) :: st) s
      | none => False) = _
  rw [h]
theorem xcsw {x j : Nat} (h1 : zlk T.2.2.1 x = none) (h : zlk T.2.2.2 x = some j) : xhp E b T Γ (.ldc_w x) st s k = k (.ref (E.aK j) :: st) s := by
  show (match zlk T.2.2.1 x with
    | some v => k (.int v :: st) s
    | none => match zlk T.2.2.2 x with
      | some j => k (.ref (E.aK j) :: st) s
      | none => False) = _
  rw [h1, h]
theorem xil {h N : Nat} {j : Int32} (hh : xarr.getD h none = some (0, N)) : xhp E b T Γ .iaload (.int j :: .ref (b + h) :: r) s k = (vp_in j N ∧ k (.int (s.A h j.toNatClampNeg) :: r) s) := by
  show rints E (xG E b s (b + h)) 0 _ = _
  rw [xG_A hh]
  exact propext ⟨fun q => q.2, fun q => ⟨rfl, q⟩⟩
theorem xlen {h t N : Nat} (hh : xarr.getD h none = some (t, N)) (ht : t < 10) : xhp E b T Γ .arraylength (.ref (b + h) :: r) s k = k (.int (Int32.ofNat N) :: r) s := by
  show rlen E (xG E b s (b + h)) (fun N => k (.int (Int32.ofNat N) :: r) s) = _
  rw [xG_A hh]
  exact propext ⟨fun q => q.2, fun q => ⟨⟨t, ht, rfl⟩, q⟩⟩
theorem xst_A {h t N : Nat} {j v : Int32} {k : zX → Prop} (hh : xarr.getD h none = some (t, N)) (h62 : h ≤ 62) (hx : xhole h = false) : xst E b s t j v (b + h) k = (vp_in j N ∧ k (xA s h j.toNatClampNeg v)) := by
  refine propext ⟨?_, fun q => Or.inl ⟨h, N, hh, rfl, q.1, q.2⟩⟩
  rintro (⟨h', N', h1, h2, h3, h4⟩ | ⟨h1, -⟩)
  · have : h' = h := by omega
    subst this
    rw [hh] at h1
    cases h1
    exact ⟨h3, h4⟩
  · exact absurd h1 (xfree_at h62 hx)
theorem xst_no {h t t' N : Nat} {j v : Int32} {k : zX → Prop} (hh : xarr.getD h none = some (t', N)) (h62 : h ≤ 62) (hx : xhole h = false) (ht : t' ≠ t) : ¬ xst E b s t j v (b + h) k := by
  rintro (⟨h', N', h1, h2, h3, h4⟩ | ⟨h1, -⟩)
  · have : h' = h := by omega
    subst this
    rw [hh] at h1
    cases h1
    exact ht rfl
  · exact xfree_at h62 hx h1
theorem xias {h N : Nat} {j v : Int32} (hh : xarr.getD h none = some (0, N)) (h62 : h ≤ 62) (hx : xhole h = false) : xhp E b T Γ .iastore (.int v :: .int j :: .ref (b + h) :: r) s k = (vp_in j N ∧ k r (xA s h j.toNatClampNeg v)) := xst_A hh h62 hx
theorem xbs1 {h N : Nat} {j v : Int32} (hh : xarr.getD h none = some (1, N)) (h62 : h ≤ 62) (hx : xhole h = false) : xhp E b T Γ .bastore (.int v :: .int j :: .ref (b + h) :: r) s k = ((v = 0 ∨ v = 1) ∧ vp_in j N ∧ k r (xA s h j.toNatClampNeg v)) := by
  refine propext ⟨fun q => ?_, fun q => Or.inl (by rw [xst_A hh h62 hx]; exact q)⟩
  rcases q with q | q
  · rw [xst_A hh h62 hx] at q; exact q
  · exact absurd q (xst_no hh h62 hx (by decide))
theorem xbs2 {h N : Nat} {j v : Int32} (hh : xarr.getD h none = some (2, N)) (h62 : h ≤ 62) (hx : xhole h = false) : xhp E b T Γ .bastore (.int v :: .int j :: .ref (b + h) :: r) s k = (vp_in j N ∧ k r (xA s h j.toNatClampNeg v.toInt8.toInt32)) := by
  refine propext ⟨fun q => ?_, fun q => Or.inr (by rw [xst_A hh h62 hx]; exact q)⟩
  rcases q with q | q
  · exact absurd q.2 (xst_no hh h62 hx (by decide))
  · rw [xst_A hh h62 hx] at q; exact q
theorem xbl {h t N : Nat} {j : Int32} (hh : xarr.getD h none = some (t, N)) (ht : t = 1 ∨ t = 2) : xhp E b T Γ .baload (.int j :: .ref (b + h) :: r) s k = (vp_in j N ∧ k (.int (s.A h j.toNatClampNeg) :: r) s) := by
  show (∃ t, (t = 1 ∨ t = 2) ∧ rints E (xG E b s (b + h)) t fun N f => vp_in j N ∧ k (.int (f j.toNatClampNeg) :: r) s) = _
  rw [xG_A hh]
  exact propext ⟨fun ⟨t', h1, h2, h3⟩ => h3, fun q => ⟨t, ht, rfl, q⟩⟩
theorem xcS {i n : Nat} {C : zT zX} {as : List Value} (h : zlk Γ i = some (false, n, C)) (hp : zpop n [] st = some (as, r)) : xhp E b T Γ (.invokestatic i) st s k = (zfew r 8 = true ∧ C as s (fun v s' => zpush v r (fun q => k q s'))) := by
  show rcall Γ i false st s k = _
  unfold rcall
  rw [h]
  dsimp only
  rw [hp]
  exact propext ⟨fun q => q.2, fun q => ⟨rfl, q⟩⟩
theorem xcV {i n : Nat} {C : zT zX} {as : List Value} (h : zlk Γ i = some (true, n, C)) (hp : zpop n [] st = some (as, r)) : xhp E b T Γ (.invokevirtual i) st s k = (zfew r 8 = true ∧ C as s (fun v s' => zpush v r (fun q => k q s'))) := by
  show rcall Γ i true st s k = _
  unfold rcall
  rw [h]
  dsimp only
  rw [hp]
  exact propext ⟨fun q => q.2, fun q => ⟨rfl, q⟩⟩
theorem xg1_24 : xhp E b rt1 Γ (.getfield 24) (.ref b :: r) s k = k (.ref (b + 1) :: r) s := xgf (q := (1, 0, false)) rfl (xfld_0 (by decide))
theorem xg1_56 : xhp E b rt1 Γ (.getfield 56) (.ref b :: r) s k = k (.ref (b + 2) :: r) s := xgf (q := (1, 2, false)) rfl (xfld_0 (by decide))
theorem xg1_80 : xhp E b rt1 Γ (.getfield 80) (.ref b :: r) s k = k (.ref (b + 7) :: r) s := xgf (q := (1, 3, false)) rfl (xfld_0 (by decide))
theorem xg1_91 : xhp E b rt1 Γ (.getfield 91) (.ref b :: r) s k = k (.ref (b + 8) :: r) s := xgf (q := (1, 4, false)) rfl (xfld_0 (by decide))
theorem xg1_94 : xhp E b rt1 Γ (.getfield 94) (.ref b :: r) s k = k (.ref (b + 9) :: r) s := xgf (q := (1, 5, false)) rfl (xfld_0 (by decide))
theorem xg1_97 : xhp E b rt1 Γ (.getfield 97) (.ref b :: r) s k = k (va_rf (s.V 6) :: r) s := xgf (q := (1, 6, false)) rfl (xfld_0 (by decide))
theorem xpr1_97 {a : Nat} : xhp E b rt1 Γ (.putfield 97) (.ref a :: .ref b :: r) s k = k r (xV s 6 (some a)) := (xpf (ci := 1) (j := 6) rfl).trans (xput_V (q := some a) rfl)
theorem xpn1_97 : xhp E b rt1 Γ (.putfield 97) (.null :: .ref b :: r) s k = k r (xV s 6 none) := (xpf (ci := 1) (j := 6) rfl).trans (xput_V (q := none) rfl)
theorem xpv1_97 {a : Option Nat} : xhp E b rt1 Γ (.putfield 97) (va_rf a :: .ref b :: r) s k = k r (xV s 6 a) := (xpf (ci := 1) (j := 6) rfl).trans (xput_V (q := a) rfl)
theorem xg1_100 : xhp E b rt1 Γ (.getfield 100) (.ref b :: r) s k = k (va_rf (s.V 7) :: r) s := xgf (q := (1, 7, false)) rfl (xfld_0 (by decide))
theorem xpr1_100 {a : Nat} : xhp E b rt1 Γ (.putfield 100) (.ref a :: .ref b :: r) s k = k r (xV s 7 (some a)) := (xpf (ci := 1) (j := 7) rfl).trans (xput_V (q := some a) rfl)
theorem xpn1_100 : xhp E b rt1 Γ (.putfield 100) (.null :: .ref b :: r) s k = k r (xV s 7 none) := (xpf (ci := 1) (j := 7) rfl).trans (xput_V (q := none) rfl)
theorem xpv1_100 {a : Option Nat} : xhp E b rt1 Γ (.putfield 100) (va_rf a :: .ref b :: r) s k = k r (xV s 7 a) := (xpf (ci := 1) (j := 7) rfl).trans (xput_V (q := a) rfl)
theorem xg1_103 : xhp E b rt1 Γ (.getfield 103) (.ref b :: r) s k = k (va_rf (s.V 8) :: r) s := xgf (q := (1, 8, false)) rfl (xfld_0 (by decide))
theorem xpr1_103 {a : Nat} : xhp E b rt1 Γ (.putfield 103) (.ref a :: .ref b :: r) s k = k r (xV s 8 (some a)) := (xpf (ci := 1) (j := 8) rfl).trans (xput_V (q := some a) rfl)
theorem xpn1_103 : xhp E b rt1 Γ (.putfield 103) (.null :: .ref b :: r) s k = k r (xV s 8 none) := (xpf (ci := 1) (j := 8) rfl).trans (xput_V (q := none) rfl)
theorem xpv1_103 {a : Option Nat} : xhp E b rt1 Γ (.putfield 103) (va_rf a :: .ref b :: r) s k = k r (xV s 8 a) := (xpf (ci := 1) (j := 8) rfl).trans (xput_V (q := a) rfl)
theorem xg1_106 : xhp E b rt1 Γ (.getfield 106) (.ref b :: r) s k = k (.int (s.I 15) :: r) s := xgf (q := (1, 15, false)) rfl (xfld_0 (by decide))
theorem xp1_106 {v : Int32} : xhp E b rt1 Γ (.putfield 106) (.int v :: .ref b :: r) s k = k r (xI s 15 v) := (xpf (ci := 1) (j := 15) rfl).trans (xput_I rfl)
theorem xg1_113 : xhp E b rt1 Γ (.getfield 113) (.ref b :: r) s k = k (va_rf (s.V 16) :: r) s := xgf (q := (1, 16, false)) rfl (xfld_0 (by decide))
theorem xpr1_113 {a : Nat} : xhp E b rt1 Γ (.putfield 113) (.ref a :: .ref b :: r) s k = k r (xV s 16 (some a)) := (xpf (ci := 1) (j := 16) rfl).trans (xput_V (q := some a) rfl)
theorem xpn1_113 : xhp E b rt1 Γ (.putfield 113) (.null :: .ref b :: r) s k = k r (xV s 16 none) := (xpf (ci := 1) (j := 16) rfl).trans (xput_V (q := none) rfl)
theorem xpv1_113 {a : Option Nat} : xhp E b rt1 Γ (.putfield 113) (va_rf a :: .ref b :: r) s k = k r (xV s 16 a) := (xpf (ci := 1) (j := 16) rfl).trans (xput_V (q := a) rfl)
theorem xg1_117 : xhp E b rt1 Γ (.getfield 117) (.ref b :: r) s k = k (va_rf (s.V 17) :: r) s := xgf (q := (1, 17, false)) rfl (xfld_0 (by decide))
theorem xpr1_117 {a : Nat} : xhp E b rt1 Γ (.putfield 117) (.ref a :: .ref b :: r) s k = k r (xV s 17 (some a)) := (xpf (ci := 1) (j := 17) rfl).trans (xput_V (q := some a) rfl)
theorem xpn1_117 : xhp E b rt1 Γ (.putfield 117) (.null :: .ref b :: r) s k = k r (xV s 17 none) := (xpf (ci := 1) (j := 17) rfl).trans (xput_V (q := none) rfl)
theorem xpv1_117 {a : Option Nat} : xhp E b rt1 Γ (.putfield 117) (va_rf a :: .ref b :: r) s k = k r (xV s 17 a) := (xpf (ci := 1) (j := 17) rfl).trans (xput_V (q := a) rfl)
theorem xg1_122 : xhp E b rt1 Γ (.getfield 122) (.ref b :: r) s k = k (va_rf (s.V 18) :: r) s := xgf (q := (1, 18, false)) rfl (xfld_0 (by decide))
theorem xpr1_122 {a : Nat} : xhp E b rt1 Γ (.putfield 122) (.ref a :: .ref b :: r) s k = k r (xV s 18 (some a)) := (xpf (ci := 1) (j := 18) rfl).trans (xput_V (q := some a) rfl)
theorem xpn1_122 : xhp E b rt1 Γ (.putfield 122) (.null :: .ref b :: r) s k = k r (xV s 18 none) := (xpf (ci := 1) (j := 18) rfl).trans (xput_V (q := none) rfl)
theorem xpv1_122 {a : Option Nat} : xhp E b rt1 Γ (.putfield 122) (va_rf a :: .ref b :: r) s k = k r (xV s 18 a) := (xpf (ci := 1) (j := 18) rfl).trans (xput_V (q := a) rfl)
theorem xg1_128 : xhp E b rt1 Γ (.getfield 128) (.ref b :: r) s k = k (va_rf (s.V 19) :: r) s := xgf (q := (1, 19, false)) rfl (xfld_0 (by decide))
theorem xpr1_128 {a : Nat} : xhp E b rt1 Γ (.putfield 128) (.ref a :: .ref b :: r) s k = k r (xV s 19 (some a)) := (xpf (ci := 1) (j := 19) rfl).trans (xput_V (q := some a) rfl)
theorem xpn1_128 : xhp E b rt1 Γ (.putfield 128) (.null :: .ref b :: r) s k = k r (xV s 19 none) := (xpf (ci := 1) (j := 19) rfl).trans (xput_V (q := none) rfl)
theorem xpv1_128 {a : Option Nat} : xhp E b rt1 Γ (.putfield 128) (va_rf a :: .ref b :: r) s k = k r (xV s 19 a) := (xpf (ci := 1) (j := 19) rfl).trans (xput_V (q := a) rfl)
theorem xg1_132 : xhp E b rt1 Γ (.getfield 132) (.ref b :: r) s k = k (.ref (b + 20) :: r) s := xgf (q := (1, 20, false)) rfl (xfld_0 (by decide))
theorem xg1_136 : xhp E b rt1 Γ (.getfield 136) (.ref b :: r) s k = k (.ref (b + 21) :: r) s := xgf (q := (1, 21, false)) rfl (xfld_0 (by decide))
theorem xg1_139 : xhp E b rt1 Γ (.getfield 139) (.ref b :: r) s k = k (.ref (b + 22) :: r) s := xgf (q := (1, 22, false)) rfl (xfld_0 (by decide))
theorem xg1_142 : xhp E b rt1 Γ (.getfield 142) (.ref b :: r) s k = k (.ref (b + 23) :: r) s := xgf (q := (1, 23, false)) rfl (xfld_0 (by decide))
theorem xg1_145 : xhp E b rt1 Γ (.getfield 145) (.ref b :: r) s k = k (.ref (b + 24) :: r) s := xgf (q := (1, 24, false)) rfl (xfld_0 (by decide))
theorem xg1_148 : xhp E b rt1 Γ (.getfield 148) (.ref b :: r) s k = k (.ref (b + 25) :: r) s := xgf (q := (1, 25, false)) rfl (xfld_0 (by decide))
theorem xg1_150 : xhp E b rt1 Γ (.getfield 150) (.ref b :: r) s k = k (.ref (b + 26) :: r) s := xgf (q := (1, 26, false)) rfl (xfld_0 (by decide))
theorem xg1_153 : xhp E b rt1 Γ (.getfield 153) (.ref b :: r) s k = k (.int (s.I 30) :: r) s := xgf (q := (1, 30, false)) rfl (xfld_0 (by decide))
theorem xp1_153 {v : Int32} : xhp E b rt1 Γ (.putfield 153) (.int v :: .ref b :: r) s k = k r (xI s 30 v) := (xpf (ci := 1) (j := 30) rfl).trans (xput_I rfl)
theorem xg1_156 : xhp E b rt1 Γ (.getfield 156) (.ref b :: r) s k = k (.ref (b + 27) :: r) s := xgf (q := (1, 31, false)) rfl (xfld_0 (by decide))
theorem xg1_164 : xhp E b rt1 Γ (.getfield 164) (.ref b :: r) s k = k (.ref (b + xyo 0) :: r) s := xgf (q := (1, 32, false)) rfl (xfld_0 (by decide))
theorem xg1_168 : xhp E b rt1 Γ (.getfield 168) (.ref b :: r) s k = k (.ref (b + xyo 1) :: r) s := xgf (q := (1, 33, false)) rfl (xfld_0 (by decide))
theorem xg1_171 : xhp E b rt1 Γ (.getfield 171) (.ref b :: r) s k = k (.ref (b + xyo 2) :: r) s := xgf (q := (1, 34, false)) rfl (xfld_0 (by decide))
theorem xg1_174 : xhp E b rt1 Γ (.getfield 174) (.ref b :: r) s k = k (.ref (b + 49) :: r) s := xgf (q := (1, 35, false)) rfl (xfld_0 (by decide))
theorem xg1_177 : xhp E b rt1 Γ (.getfield 177) (.ref b :: r) s k = k (.ref (b + 50) :: r) s := xgf (q := (1, 36, false)) rfl (xfld_0 (by decide))
theorem xg1_181 : xhp E b rt1 Γ (.getfield 181) (.ref b :: r) s k = k (.ref (b + 51) :: r) s := xgf (q := (1, 41, false)) rfl (xfld_0 (by decide))
theorem xg1_185 : xhp E b rt1 Γ (.getfield 185) (.ref b :: r) s k = k (.ref (b + 52) :: r) s := xgf (q := (1, 42, false)) rfl (xfld_0 (by decide))
theorem xg1_189 : xhp E b rt1 Γ (.getfield 189) (.ref b :: r) s k = k (.ref (b + 53) :: r) s := xgf (q := (1, 43, false)) rfl (xfld_0 (by decide))
theorem xg1_192 : xhp E b rt1 Γ (.getfield 192) (.ref b :: r) s k = k (.ref (b + 54) :: r) s := xgf (q := (1, 44, false)) rfl (xfld_0 (by decide))
theorem xg1_195 : xhp E b rt1 Γ (.getfield 195) (.ref b :: r) s k = k (.ref (b + 55) :: r) s := xgf (q := (1, 45, false)) rfl (xfld_0 (by decide))
theorem xg1_198 : xhp E b rt1 Γ (.getfield 198) (.ref b :: r) s k = k (.ref (b + 56) :: r) s := xgf (q := (1, 46, false)) rfl (xfld_0 (by decide))
theorem xg1_201 : xhp E b rt1 Γ (.getfield 201) (.ref b :: r) s k = k (.ref (b + 57) :: r) s := xgf (q := (1, 47, false)) rfl (xfld_0 (by decide))
theorem xg1_204 : xhp E b rt1 Γ (.getfield 204) (.ref b :: r) s k = k (.ref (b + 58) :: r) s := xgf (q := (1, 48, false)) rfl (xfld_0 (by decide))
theorem xg1_207 : xhp E b rt1 Γ (.getfield 207) (.ref b :: r) s k = k (.ref (b + 59) :: r) s := xgf (q := (1, 49, false)) rfl (xfld_0 (by decide))
theorem xg1_211 : xhp E b rt1 Γ (.getfield 211) (.ref b :: r) s k = k (.ref (b + 60) :: r) s := xgf (q := (1, 51, false)) rfl (xfld_0 (by decide))
theorem xg1_215 : xhp E b rt1 Γ (.getfield 215) (.ref b :: r) s k = k (.ref (b + 61) :: r) s := xgf (q := (1, 52, false)) rfl (xfld_0 (by decide))
theorem xg1_218 : xhp E b rt1 Γ (.getfield 218) (.ref b :: r) s k = k (.ref (b + 62) :: r) s := xgf (q := (1, 53, false)) rfl (xfld_0 (by decide))
theorem xg1_221 {y : Nat} (hy : y < 3) : xhp E b rt1 Γ (.getfield 221) (.ref (b + xyo y) :: r) s k = k (.ref (b + xya y 4) :: r) s := xgf (q := (2, 4, false)) rfl (xfld_y hy (by decide))
theorem xg1_230 : xhp E b rt1 Γ (.getfield 230) (.ref b :: r) s k = k (.int (s.I 1) :: r) s := xgf (q := (1, 1, false)) rfl (xfld_0 (by decide))
theorem xp1_230 {v : Int32} : xhp E b rt1 Γ (.putfield 230) (.int v :: .ref b :: r) s k = k r (xI s 1 v) := (xpf (ci := 1) (j := 1) rfl).trans (xput_I rfl)
theorem xg1_245 : xhp E b rt1 Γ (.getfield 245) (.ref b :: r) s k = k (.int (s.I 10) :: r) s := xgf (q := (1, 10, false)) rfl (xfld_0 (by decide))
theorem xp1_245 {v : Int32} : xhp E b rt1 Γ (.putfield 245) (.int v :: .ref b :: r) s k = k r (xI s 10 v) := (xpf (ci := 1) (j := 10) rfl).trans (xput_I rfl)
theorem xg1_248 : xhp E b rt1 Γ (.getfield 248) (.ref b :: r) s k = k (.int (s.I 11) :: r) s := xgf (q := (1, 11, false)) rfl (xfld_0 (by decide))
theorem xp1_248 {v : Int32} : xhp E b rt1 Γ (.putfield 248) (.int v :: .ref b :: r) s k = k r (xI s 11 v) := (xpf (ci := 1) (j := 11) rfl).trans (xput_I rfl)
theorem xg1_258 : xhp E b rt1 Γ (.getfield 258) (.ref b :: r) s k = k (va_rf (s.V 9) :: r) s := xgf (q := (1, 9, false)) rfl (xfld_0 (by decide))
theorem xpr1_258 {a : Nat} : xhp E b rt1 Γ (.putfield 258) (.ref a :: .ref b :: r) s k = k r (xV s 9 (some a)) := (xpf (ci := 1) (j := 9) rfl).trans (xput_V (q := some a) rfl)
theorem xpn1_258 : xhp E b rt1 Γ (.putfield 258) (.null :: .ref b :: r) s k = k r (xV s 9 none) := (xpf (ci := 1) (j := 9) rfl).trans (xput_V (q := none) rfl)
theorem xpv1_258 {a : Option Nat} : xhp E b rt1 Γ (.putfield 258) (va_rf a :: .ref b :: r) s k = k r (xV s 9 a) := (xpf (ci := 1) (j := 9) rfl).trans (xput_V (q := a) rfl)
theorem xg1_274 : xhp E b rt1 Γ (.getfield 274) (.ref b :: r) s k = k (.int (s.I 12) :: r) s := xgf (q := (1, 12, false)) rfl (xfld_0 (by decide))
theorem xp1_274 {v : Int32} : xhp E b rt1 Γ (.putfield 274) (.int v :: .ref b :: r) s k = k r (xI s 12 v) := (xpf (ci := 1) (j := 12) rfl).trans (xput_I rfl)
theorem xg1_338 : xhp E b rt1 Γ (.getfield 338) (.ref b :: r) s k = k (.int (s.I 13) :: r) s := xgf (q := (1, 13, false)) rfl (xfld_0 (by decide))
theorem xp1_338 {v : Int32} : xhp E b rt1 Γ (.putfield 338) (.int v :: .ref b :: r) s k = k r (xI s 13 v) := (xpf (ci := 1) (j := 13) rfl).trans (xput_I rfl)
theorem xo1_368 {a : Nat} {g : zG} {l : List Value} {v : Value} {u : zX} (hf : xfree b a) (ga : g a = some (.inr (3, l))) (hv : l[3]? = some v) (hg : u.g = g) : xhp E b rt1 Γ (.getfield 368) (.ref a :: r) u k = k (v :: r) u := xgf (q := (3, 3, false)) rfl (xfld_f hf ga hv hg)
theorem xo1_371 {a : Nat} {g : zG} {l : List Value} {v : Value} {u : zX} (hf : xfree b a) (ga : g a = some (.inr (3, l))) (hv : l[0]? = some v) (hg : u.g = g) : xhp E b rt1 Γ (.getfield 371) (.ref a :: r) u k = k (v :: r) u := xgf (q := (3, 0, false)) rfl (xfld_f hf ga hv hg)
theorem xo1_374 {a : Nat} {g : zG} {l : List Value} {v : Value} {u : zX} (hf : xfree b a) (ga : g a = some (.inr (3, l))) (hv : l[1]? = some v) (hg : u.g = g) : xhp E b rt1 Γ (.getfield 374) (.ref a :: r) u k = k (v :: r) u := xgf (q := (3, 1, false)) rfl (xfld_f hf ga hv hg)
theorem xo1_378 {a : Nat} {g : zG} {l : List Value} {v : Value} {u : zX} (hf : xfree b a) (ga : g a = some (.inr (3, l))) (hv : l[2]? = some v) (hg : u.g = g) : xhp E b rt1 Γ (.getfield 378) (.ref a :: r) u k = k (v :: r) u := xgf (q := (3, 2, false)) rfl (xfld_f hf ga hv hg)
theorem xg1_393 : xhp E b rt1 Γ (.getfield 393) (.ref b :: r) s k = k (.int (s.I 27) :: r) s := xgf (q := (1, 27, false)) rfl (xfld_0 (by decide))
theorem xp1_393 {v : Int32} : xhp E b rt1 Γ (.putfield 393) (.int v :: .ref b :: r) s k = k r (xI s 27 v) := (xpf (ci := 1) (j := 27) rfl).trans (xput_I rfl)
theorem xg1_396 : xhp E b rt1 Γ (.getfield 396) (.ref b :: r) s k = k (.int (s.I 28) :: r) s := xgf (q := (1, 28, false)) rfl (xfld_0 (by decide))
theorem xp1_396 {v : Int32} : xhp E b rt1 Γ (.putfield 396) (.int v :: .ref b :: r) s k = k r (xI s 28 v) := (xpf (ci := 1) (j := 28) rfl).trans (xput_I rfl)
theorem xg1_402 : xhp E b rt1 Γ (.getfield 402) (.ref b :: r) s k = k (.int (s.I 50) :: r) s := xgf (q := (1, 50, false)) rfl (xfld_0 (by decide))
theorem xp1_402 {v : Int32} : xhp E b rt1 Γ (.putfield 402) (.int v :: .ref b :: r) s k = k r (xI s 50 v) := (xpf (ci := 1) (j := 50) rfl).trans (xput_I rfl)
theorem xg1_405 {y : Nat} (hy : y < 3) : xhp E b rt1 Γ (.getfield 405) (.ref (b + xyo y) :: r) s k = k (.ref (b + xya y 5) :: r) s := xgf (q := (2, 5, false)) rfl (xfld_y hy (by decide))
theorem xg1_408 : xhp E b rt1 Γ (.getfield 408) (.ref b :: r) s k = k (.int (s.I 37) :: r) s := xgf (q := (1, 37, false)) rfl (xfld_0 (by decide))
theorem xp1_408 {v : Int32} : xhp E b rt1 Γ (.putfield 408) (.int v :: .ref b :: r) s k = k r (xI s 37 v) := (xpf (ci := 1) (j := 37) rfl).trans (xput_I rfl)
theorem xg1_434 : xhp E b rt1 Γ (.getfield 434) (.ref b :: r) s k = k (.int (s.I 14) :: r) s := xgf (q := (1, 14, false)) rfl (xfld_0 (by decide))
theorem xp1_434 {v : Int32} : xhp E b rt1 Γ (.putfield 434) (.int v :: .ref b :: r) s k = k r (xI s 14 v) := (xpf (ci := 1) (j := 14) rfl).trans (xput_I rfl)
theorem xo1_440 {a : Nat} {g : zG} {l : List Value} {v : Value} {u : zX} (hf : xfree b a) (ga : g a = some (.inr (4, l))) (hv : l[6]? = some v) (hg : u.g = g) : xhp E b rt1 Γ (.getfield 440) (.ref a :: r) u k = k (v :: r) u := xgf (q := (4, 6, false)) rfl (xfld_f hf ga hv hg)
theorem xo1_442 {a : Nat} {g : zG} {l : List Value} {v : Value} {u : zX} (hf : xfree b a) (ga : g a = some (.inr (4, l))) (hv : l[7]? = some v) (hg : u.g = g) : xhp E b rt1 Γ (.getfield 442) (.ref a :: r) u k = k (v :: r) u := xgf (q := (4, 7, false)) rfl (xfld_f hf ga hv hg)
theorem xg1_445 {y : Nat} (hy : y < 3) : xhp E b rt1 Γ (.getfield 445) (.ref (b + xyo y) :: r) s k = k (.int (s.I (xyi y 9)) :: r) s := xgf (q := (2, 9, false)) rfl (xfld_y hy (by decide))
theorem xp1_445 {y : Nat} {v : Int32} (hy : y < 3) : xhp E b rt1 Γ (.putfield 445) (.int v :: .ref (b + xyo y) :: r) s k = k r (xI s (xyi y 9) v) := (xpf (ci := 2) (j := 9) rfl).trans (xput_Y hy (by decide) (by decide) (by decide))
theorem xg1_448 {y : Nat} (hy : y < 3) : xhp E b rt1 Γ (.getfield 448) (.ref (b + xyo y) :: r) s k = k (.int (s.I (xyi y 6)) :: r) s := xgf (q := (2, 6, false)) rfl (xfld_y hy (by decide))
theorem xp1_448 {y : Nat} {v : Int32} (hy : y < 3) : xhp E b rt1 Γ (.putfield 448) (.int v :: .ref (b + xyo y) :: r) s k = k r (xI s (xyi y 6) v) := (xpf (ci := 2) (j := 6) rfl).trans (xput_Y hy (by decide) (by decide) (by decide))
theorem xg1_461 {y : Nat} (hy : y < 3) : xhp E b rt1 Γ (.getfield 461) (.ref (b + xyo y) :: r) s k = k (.int (s.I (xyi y 8)) :: r) s := xgf (q := (2, 8, false)) rfl (xfld_y hy (by decide))
theorem xp1_461 {y : Nat} {v : Int32} (hy : y < 3) : xhp E b rt1 Γ (.putfield 461) (.int v :: .ref (b + xyo y) :: r) s k = k r (xI s (xyi y 8) v) := (xpf (ci := 2) (j := 8) rfl).trans (xput_Y hy (by decide) (by decide) (by decide))
theorem xg1_470 {y : Nat} (hy : y < 3) : xhp E b rt1 Γ (.getfield 470) (.ref (b + xyo y) :: r) s k = k (.ref (b + xya y 0) :: r) s := xgf (q := (2, 0, false)) rfl (xfld_y hy (by decide))
theorem xg1_472 {y : Nat} (hy : y < 3) : xhp E b rt1 Γ (.getfield 472) (.ref (b + xyo y) :: r) s k = k (.ref (b + xya y 1) :: r) s := xgf (q := (2, 1, false)) rfl (xfld_y hy (by decide))
theorem xg1_474 {y : Nat} (hy : y < 3) : xhp E b rt1 Γ (.getfield 474) (.ref (b + xyo y) :: r) s k = k (.ref (b + xya y 2) :: r) s := xgf (q := (2, 2, false)) rfl (xfld_y hy (by decide))
theorem xg1_476 {y : Nat} (hy : y < 3) : xhp E b rt1 Γ (.getfield 476) (.ref (b + xyo y) :: r) s k = k (.ref (b + xya y 3) :: r) s := xgf (q := (2, 3, false)) rfl (xfld_y hy (by decide))
theorem xg1_490 : xhp E b rt1 Γ (.getfield 490) (.ref b :: r) s k = k (.int (s.I 29) :: r) s := xgf (q := (1, 29, false)) rfl (xfld_0 (by decide))
theorem xp1_490 {v : Int32} : xhp E b rt1 Γ (.putfield 490) (.int v :: .ref b :: r) s k = k r (xI s 29 v) := (xpf (ci := 1) (j := 29) rfl).trans (xput_I rfl)
theorem xg1_500 {y : Nat} (hy : y < 3) : xhp E b rt1 Γ (.getfield 500) (.ref (b + xyo y) :: r) s k = k (.int (s.I (xyi y 7)) :: r) s := xgf (q := (2, 7, false)) rfl (xfld_y hy (by decide))
theorem xp1_500 {y : Nat} {v : Int32} (hy : y < 3) : xhp E b rt1 Γ (.putfield 500) (.int v :: .ref (b + xyo y) :: r) s k = k r (xI s (xyi y 7) v) := (xpf (ci := 2) (j := 7) rfl).trans (xput_Y hy (by decide) (by decide) (by decide))
theorem xg1_510 : xhp E b rt1 Γ (.getfield 510) (.ref b :: r) s k = k (.int (s.I 38) :: r) s := xgf (q := (1, 38, false)) rfl (xfld_0 (by decide))
theorem xp1_510 {v : Int32} : xhp E b rt1 Γ (.putfield 510) (.int v :: .ref b :: r) s k = k r (xI s 38 v) := (xpf (ci := 1) (j := 38) rfl).trans (xput_I rfl)
theorem xg1_513 : xhp E b rt1 Γ (.getfield 513) (.ref b :: r) s k = k (.int (s.I 39) :: r) s := xgf (q := (1, 39, false)) rfl (xfld_0 (by decide))
theorem xp1_513 {v : Int32} : xhp E b rt1 Γ (.putfield 513) (.int v :: .ref b :: r) s k = k r (xI s 39 v) := (xpf (ci := 1) (j := 39) rfl).trans (xput_I rfl)
theorem xg1_516 : xhp E b rt1 Γ (.getfield 516) (.ref b :: r) s k = k (.int (s.I 40) :: r) s := xgf (q := (1, 40, false)) rfl (xfld_0 (by decide))
theorem xp1_516 {v : Int32} : xhp E b rt1 Γ (.putfield 516) (.int v :: .ref b :: r) s k = k r (xI s 40 v) := (xpf (ci := 1) (j := 40) rfl).trans (xput_I rfl)
theorem xg1_635 {y : Nat} (hy : y < 3) : xhp E b rt1 Γ (.getfield 635) (.ref (b + xyo y) :: r) s k = k (.int (s.I (xyi y 14)) :: r) s := xgf (q := (2, 14, false)) rfl (xfld_y hy (by decide))
theorem xp1_635 {y : Nat} {v : Int32} (hy : y < 3) : xhp E b rt1 Γ (.putfield 635) (.int v :: .ref (b + xyo y) :: r) s k = k r (xI s (xyi y 14) v) := (xpf (ci := 2) (j := 14) rfl).trans (xput_Y hy (by decide) (by decide) (by decide))
theorem xg1_638 {y : Nat} (hy : y < 3) : xhp E b rt1 Γ (.getfield 638) (.ref (b + xyo y) :: r) s k = k (.int (s.I (xyi y 11)) :: r) s := xgf (q := (2, 11, false)) rfl (xfld_y hy (by decide))
theorem xp1_638 {y : Nat} {v : Int32} (hy : y < 3) : xhp E b rt1 Γ (.putfield 638) (.int v :: .ref (b + xyo y) :: r) s k = k r (xI s (xyi y 11) v) := (xpf (ci := 2) (j := 11) rfl).trans (xput_Y hy (by decide) (by decide) (by decide))
theorem xg1_641 {y : Nat} (hy : y < 3) : xhp E b rt1 Γ (.getfield 641) (.ref (b + xyo y) :: r) s k = k (.int (s.I (xyi y 12)) :: r) s := xgf (q := (2, 12, false)) rfl (xfld_y hy (by decide))
theorem xp1_641 {y : Nat} {v : Int32} (hy : y < 3) : xhp E b rt1 Γ (.putfield 641) (.int v :: .ref (b + xyo y) :: r) s k = k r (xI s (xyi y 12) v) := (xpf (ci := 2) (j := 12) rfl).trans (xput_Y hy (by decide) (by decide) (by decide))
theorem xg1_644 {y : Nat} (hy : y < 3) : xhp E b rt1 Γ (.getfield 644) (.ref (b + xyo y) :: r) s k = k (.int (s.I (xyi y 13)) :: r) s := xgf (q := (2, 13, false)) rfl (xfld_y hy (by decide))
theorem xp1_644 {y : Nat} {v : Int32} (hy : y < 3) : xhp E b rt1 Γ (.putfield 644) (.int v :: .ref (b + xyo y) :: r) s k = k r (xI s (xyi y 13) v) := (xpf (ci := 2) (j := 13) rfl).trans (xput_Y hy (by decide) (by decide) (by decide))
theorem xg1_661 : xhp E b rt1 Γ (.getfield 661) (.ref b :: r) s k = k (va_rf (s.V 54) :: r) s := xgf (q := (1, 54, false)) rfl (xfld_0 (by decide))
theorem xpr1_661 {a : Nat} : xhp E b rt1 Γ (.putfield 661) (.ref a :: .ref b :: r) s k = k r (xV s 54 (some a)) := (xpf (ci := 1) (j := 54) rfl).trans (xput_V (q := some a) rfl)
theorem xpn1_661 : xhp E b rt1 Γ (.putfield 661) (.null :: .ref b :: r) s k = k r (xV s 54 none) := (xpf (ci := 1) (j := 54) rfl).trans (xput_V (q := none) rfl)
theorem xpv1_661 {a : Option Nat} : xhp E b rt1 Γ (.putfield 661) (va_rf a :: .ref b :: r) s k = k r (xV s 54 a) := (xpf (ci := 1) (j := 54) rfl).trans (xput_V (q := a) rfl)
theorem xg1_664 : xhp E b rt1 Γ (.getfield 664) (.ref b :: r) s k = k (va_rf (s.V 55) :: r) s := xgf (q := (1, 55, false)) rfl (xfld_0 (by decide))
theorem xpr1_664 {a : Nat} : xhp E b rt1 Γ (.putfield 664) (.ref a :: .ref b :: r) s k = k r (xV s 55 (some a)) := (xpf (ci := 1) (j := 55) rfl).trans (xput_V (q := some a) rfl)
theorem xpn1_664 : xhp E b rt1 Γ (.putfield 664) (.null :: .ref b :: r) s k = k r (xV s 55 none) := (xpf (ci := 1) (j := 55) rfl).trans (xput_V (q := none) rfl)
theorem xpv1_664 {a : Option Nat} : xhp E b rt1 Γ (.putfield 664) (va_rf a :: .ref b :: r) s k = k r (xV s 55 a) := (xpf (ci := 1) (j := 55) rfl).trans (xput_V (q := a) rfl)
theorem xg1_667 : xhp E b rt1 Γ (.getfield 667) (.ref b :: r) s k = k (va_rf (s.V 56) :: r) s := xgf (q := (1, 56, false)) rfl (xfld_0 (by decide))
theorem xpr1_667 {a : Nat} : xhp E b rt1 Γ (.putfield 667) (.ref a :: .ref b :: r) s k = k r (xV s 56 (some a)) := (xpf (ci := 1) (j := 56) rfl).trans (xput_V (q := some a) rfl)
theorem xpn1_667 : xhp E b rt1 Γ (.putfield 667) (.null :: .ref b :: r) s k = k r (xV s 56 none) := (xpf (ci := 1) (j := 56) rfl).trans (xput_V (q := none) rfl)
theorem xpv1_667 {a : Option Nat} : xhp E b rt1 Γ (.putfield 667) (va_rf a :: .ref b :: r) s k = k r (xV s 56 a) := (xpf (ci := 1) (j := 56) rfl).trans (xput_V (q := a) rfl)
theorem xg1_670 : xhp E b rt1 Γ (.getfield 670) (.ref b :: r) s k = k (va_rf (s.V 57) :: r) s := xgf (q := (1, 57, false)) rfl (xfld_0 (by decide))
theorem xpr1_670 {a : Nat} : xhp E b rt1 Γ (.putfield 670) (.ref a :: .ref b :: r) s k = k r (xV s 57 (some a)) := (xpf (ci := 1) (j := 57) rfl).trans (xput_V (q := some a) rfl)
theorem xpn1_670 : xhp E b rt1 Γ (.putfield 670) (.null :: .ref b :: r) s k = k r (xV s 57 none) := (xpf (ci := 1) (j := 57) rfl).trans (xput_V (q := none) rfl)
theorem xpv1_670 {a : Option Nat} : xhp E b rt1 Γ (.putfield 670) (va_rf a :: .ref b :: r) s k = k r (xV s 57 a) := (xpf (ci := 1) (j := 57) rfl).trans (xput_V (q := a) rfl)
theorem xs1_262 : xhp E b rt1 Γ (.getstatic 262) st s k = k (.ref (E.tk 2) :: st) s := xgs (j := 2) rfl
theorem xs1_271 : xhp E b rt1 Γ (.getstatic 271) st s k = k (.ref (E.tk 4) :: st) s := xgs (j := 4) rfl
theorem xs1_277 : xhp E b rt1 Γ (.getstatic 277) st s k = k (.ref (E.tk 0) :: st) s := xgs (j := 0) rfl
theorem xs1_280 : xhp E b rt1 Γ (.getstatic 280) st s k = k (.ref (E.tk 1) :: st) s := xgs (j := 1) rfl
theorem xs1_295 : xhp E b rt1 Γ (.getstatic 295) st s k = k (.ref (E.tk 3) :: st) s := xgs (j := 3) rfl
theorem xs1_478 : xhp E b rt1 Γ (.getstatic 478) st s k = k (.ref (E.tk 5) :: st) s := xgs (j := 5) rfl
theorem xs1_481 : xhp E b rt1 Γ (.getstatic 481) st s k = k (.ref (E.tk 6) :: st) s := xgs (j := 6) rfl
theorem xc1_188 : xhp E b rt1 Γ (.ldc 188) st s k = k (.int 65536 :: st) s := xci rfl
theorem xc1_294 : xhp E b rt1 Γ (.ldc_w 294) st s k = k (.int 99999 :: st) s := xciw (x := 294) (T := rt1) rfl
theorem xc1_32 : xhp E b rt1 Γ (.ldc 32) st s k = k (.ref (E.aK 26) :: st) s := xcs (j := 26) rfl rfl
theorem xc1_34 : xhp E b rt1 Γ (.ldc 34) st s k = k (.ref (E.aK 27) :: st) s := xcs (j := 27) rfl rfl
theorem xc1_36 : xhp E b rt1 Γ (.ldc 36) st s k = k (.ref (E.aK 28) :: st) s := xcs (j := 28) rfl rfl
theorem xc1_38 : xhp E b rt1 Γ (.ldc 38) st s k = k (.ref (E.aK 29) :: st) s := xcs (j := 29) rfl rfl
theorem xc1_40 : xhp E b rt1 Γ (.ldc 40) st s k = k (.ref (E.aK 30) :: st) s := xcs (j := 30) rfl rfl
theorem xc1_42 : xhp E b rt1 Γ (.ldc 42) st s k = k (.ref (E.aK 31) :: st) s := xcs (j := 31) rfl rfl
theorem xc1_44 : xhp E b rt1 Γ (.ldc 44) st s k = k (.ref (E.aK 32) :: st) s := xcs (j := 32) rfl rfl
theorem xc1_46 : xhp E b rt1 Γ (.ldc 46) st s k = k (.ref (E.aK 33) :: st) s := xcs (j := 33) rfl rfl
theorem xc1_48 : xhp E b rt1 Γ (.ldc 48) st s k = k (.ref (E.aK 34) :: st) s := xcs (j := 34) rfl rfl
theorem xc1_50 : xhp E b rt1 Γ (.ldc 50) st s k = k (.ref (E.aK 35) :: st) s := xcs (j := 35) rfl rfl
theorem xc1_52 : xhp E b rt1 Γ (.ldc 52) st s k = k (.ref (E.aK 36) :: st) s := xcs (j := 36) rfl rfl
theorem xc1_54 : xhp E b rt1 Γ (.ldc 54) st s k = k (.ref (E.aK 37) :: st) s := xcs (j := 37) rfl rfl
theorem xc1_60 : xhp E b rt1 Γ (.ldc 60) st s k = k (.ref (E.aK 38) :: st) s := xcs (j := 38) rfl rfl
theorem xc1_62 : xhp E b rt1 Γ (.ldc 62) st s k = k (.ref (E.aK 39) :: st) s := xcs (j := 39) rfl rfl
theorem xc1_64 : xhp E b rt1 Γ (.ldc 64) st s k = k (.ref (E.aK 40) :: st) s := xcs (j := 40) rfl rfl
theorem xc1_66 : xhp E b rt1 Γ (.ldc 66) st s k = k (.ref (E.aK 41) :: st) s := xcs (j := 41) rfl rfl
theorem xc1_68 : xhp E b rt1 Γ (.ldc 68) st s k = k (.ref (E.aK 42) :: st) s := xcs (j := 42) rfl rfl
theorem xc1_70 : xhp E b rt1 Γ (.ldc 70) st s k = k (.ref (E.aK 43) :: st) s := xcs (j := 43) rfl rfl
theorem xc1_72 : xhp E b rt1 Γ (.ldc 72) st s k = k (.ref (E.aK 44) :: st) s := xcs (j := 44) rfl rfl
theorem xc1_74 : xhp E b rt1 Γ (.ldc 74) st s k = k (.ref (E.aK 45) :: st) s := xcs (j := 45) rfl rfl
theorem xc1_76 : xhp E b rt1 Γ (.ldc 76) st s k = k (.ref (E.aK 46) :: st) s := xcs (j := 46) rfl rfl
theorem xc1_78 : xhp E b rt1 Γ (.ldc 78) st s k = k (.ref (E.aK 47) :: st) s := xcs (j := 47) rfl rfl
theorem xc1_83 : xhp E b rt1 Γ (.ldc 83) st s k = k (.ref (E.aK 48) :: st) s := xcs (j := 48) rfl rfl
theorem xc1_85 : xhp E b rt1 Γ (.ldc 85) st s k = k (.ref (E.aK 49) :: st) s := xcs (j := 49) rfl rfl
theorem xc1_87 : xhp E b rt1 Γ (.ldc 87) st s k = k (.ref (E.aK 50) :: st) s := xcs (j := 50) rfl rfl
theorem xc1_89 : xhp E b rt1 Γ (.ldc 89) st s k = k (.ref (E.aK 51) :: st) s := xcs (j := 51) rfl rfl
theorem xc1_298 : xhp E b rt1 Γ (.ldc_w 298) st s k = k (.ref (E.aK 52) :: st) s := xcsw (x := 298) (T := rt1) (j := 52) rfl rfl
theorem xg2_3 {y : Nat} (hy : y < 3) : xhp E b rt2 Γ (.getfield 3) (.ref (b + xyo y) :: r) s k = k (.ref b :: r) s := xgf (q := (2, 15, false)) rfl (xfld_y hy (by decide))
theorem xg2_15 {y : Nat} (hy : y < 3) : xhp E b rt2 Γ (.getfield 15) (.ref (b + xyo y) :: r) s k = k (.ref (b + xya y 0) :: r) s := xgf (q := (2, 0, false)) rfl (xfld_y hy (by decide))
theorem xg2_19 {y : Nat} (hy : y < 3) : xhp E b rt2 Γ (.getfield 19) (.ref (b + xyo y) :: r) s k = k (.ref (b + xya y 1) :: r) s := xgf (q := (2, 1, false)) rfl (xfld_y hy (by decide))
theorem xg2_22 {y : Nat} (hy : y < 3) : xhp E b rt2 Γ (.getfield 22) (.ref (b + xyo y) :: r) s k = k (.ref (b + xya y 2) :: r) s := xgf (q := (2, 2, false)) rfl (xfld_y hy (by decide))
theorem xg2_25 {y : Nat} (hy : y < 3) : xhp E b rt2 Γ (.getfield 25) (.ref (b + xyo y) :: r) s k = k (.ref (b + xya y 3) :: r) s := xgf (q := (2, 3, false)) rfl (xfld_y hy (by decide))
theorem xg2_28 {y : Nat} (hy : y < 3) : xhp E b rt2 Γ (.getfield 28) (.ref (b + xyo y) :: r) s k = k (.ref (b + xya y 4) :: r) s := xgf (q := (2, 4, false)) rfl (xfld_y hy (by decide))
theorem xg2_31 {y : Nat} (hy : y < 3) : xhp E b rt2 Γ (.getfield 31) (.ref (b + xyo y) :: r) s k = k (.ref (b + xya y 5) :: r) s := xgf (q := (2, 5, false)) rfl (xfld_y hy (by decide))
theorem xg2_38 {y : Nat} (hy : y < 3) : xhp E b rt2 Γ (.getfield 38) (.ref (b + xyo y) :: r) s k = k (.int (s.I (xyi y 6)) :: r) s := xgf (q := (2, 6, false)) rfl (xfld_y hy (by decide))
theorem xp2_38 {y : Nat} {v : Int32} (hy : y < 3) : xhp E b rt2 Γ (.putfield 38) (.int v :: .ref (b + xyo y) :: r) s k = k r (xI s (xyi y 6) v) := (xpf (ci := 2) (j := 6) rfl).trans (xput_Y hy (by decide) (by decide) (by decide))
theorem xg2_42 {y : Nat} (hy : y < 3) : xhp E b rt2 Γ (.getfield 42) (.ref (b + xyo y) :: r) s k = k (.int (s.I (xyi y 7)) :: r) s := xgf (q := (2, 7, false)) rfl (xfld_y hy (by decide))
theorem xp2_42 {y : Nat} {v : Int32} (hy : y < 3) : xhp E b rt2 Γ (.putfield 42) (.int v :: .ref (b + xyo y) :: r) s k = k r (xI s (xyi y 7) v) := (xpf (ci := 2) (j := 7) rfl).trans (xput_Y hy (by decide) (by decide) (by decide))
theorem xg2_45 {y : Nat} (hy : y < 3) : xhp E b rt2 Γ (.getfield 45) (.ref (b + xyo y) :: r) s k = k (.int (s.I (xyi y 8)) :: r) s := xgf (q := (2, 8, false)) rfl (xfld_y hy (by decide))
theorem xp2_45 {y : Nat} {v : Int32} (hy : y < 3) : xhp E b rt2 Γ (.putfield 45) (.int v :: .ref (b + xyo y) :: r) s k = k r (xI s (xyi y 8) v) := (xpf (ci := 2) (j := 8) rfl).trans (xput_Y hy (by decide) (by decide) (by decide))
theorem xg2_48 {y : Nat} (hy : y < 3) : xhp E b rt2 Γ (.getfield 48) (.ref (b + xyo y) :: r) s k = k (.int (s.I (xyi y 9)) :: r) s := xgf (q := (2, 9, false)) rfl (xfld_y hy (by decide))
theorem xp2_48 {y : Nat} {v : Int32} (hy : y < 3) : xhp E b rt2 Γ (.putfield 48) (.int v :: .ref (b + xyo y) :: r) s k = k r (xI s (xyi y 9) v) := (xpf (ci := 2) (j := 9) rfl).trans (xput_Y hy (by decide) (by decide) (by decide))
theorem xg2_55 {y : Nat} (hy : y < 3) : xhp E b rt2 Γ (.getfield 55) (.ref (b + xyo y) :: r) s k = k (.int (s.I (xyi y 10)) :: r) s := xgf (q := (2, 10, false)) rfl (xfld_y hy (by decide))
theorem xp2_55 {y : Nat} {v : Int32} (hy : y < 3) : xhp E b rt2 Γ (.putfield 55) (.int v :: .ref (b + xyo y) :: r) s k = ((v = 0 ∨ v = 1) ∧ k r (xI s (xyi y 10) v)) := (xpf (ci := 2) (j := 10) rfl).trans (xput_YB hy)
theorem xg2_59 {y : Nat} (hy : y < 3) : xhp E b rt2 Γ (.getfield 59) (.ref (b + xyo y) :: r) s k = k (.int (s.I (xyi y 11)) :: r) s := xgf (q := (2, 11, false)) rfl (xfld_y hy (by decide))
theorem xp2_59 {y : Nat} {v : Int32} (hy : y < 3) : xhp E b rt2 Γ (.putfield 59) (.int v :: .ref (b + xyo y) :: r) s k = k r (xI s (xyi y 11) v) := (xpf (ci := 2) (j := 11) rfl).trans (xput_Y hy (by decide) (by decide) (by decide))
theorem xg2_62 {y : Nat} (hy : y < 3) : xhp E b rt2 Γ (.getfield 62) (.ref (b + xyo y) :: r) s k = k (.int (s.I (xyi y 14)) :: r) s := xgf (q := (2, 14, false)) rfl (xfld_y hy (by decide))
theorem xp2_62 {y : Nat} {v : Int32} (hy : y < 3) : xhp E b rt2 Γ (.putfield 62) (.int v :: .ref (b + xyo y) :: r) s k = k r (xI s (xyi y 14) v) := (xpf (ci := 2) (j := 14) rfl).trans (xput_Y hy (by decide) (by decide) (by decide))
theorem xg2_65 {y : Nat} (hy : y < 3) : xhp E b rt2 Γ (.getfield 65) (.ref (b + xyo y) :: r) s k = k (.int (s.I (xyi y 12)) :: r) s := xgf (q := (2, 12, false)) rfl (xfld_y hy (by decide))
theorem xp2_65 {y : Nat} {v : Int32} (hy : y < 3) : xhp E b rt2 Γ (.putfield 65) (.int v :: .ref (b + xyo y) :: r) s k = k r (xI s (xyi y 12) v) := (xpf (ci := 2) (j := 12) rfl).trans (xput_Y hy (by decide) (by decide) (by decide))
theorem xg2_68 {y : Nat} (hy : y < 3) : xhp E b rt2 Γ (.getfield 68) (.ref (b + xyo y) :: r) s k = k (.int (s.I (xyi y 13)) :: r) s := xgf (q := (2, 13, false)) rfl (xfld_y hy (by decide))
theorem xp2_68 {y : Nat} {v : Int32} (hy : y < 3) : xhp E b rt2 Γ (.putfield 68) (.int v :: .ref (b + xyo y) :: r) s k = k r (xI s (xyi y 13) v) := (xpf (ci := 2) (j := 13) rfl).trans (xput_Y hy (by decide) (by decide) (by decide))
theorem xg2_73 : xhp E b rt2 Γ (.getfield 73) (.ref b :: r) s k = k (.ref (b + 27) :: r) s := xgf (q := (1, 31, true)) rfl (xfld_0 (by decide))
theorem xg2_76 : xhp E b rt2 Γ (.getfield 76) (.ref b :: r) s k = k (.ref (b + 25) :: r) s := xgf (q := (1, 25, true)) rfl (xfld_0 (by decide))
theorem xg2_79 : xhp E b rt2 Γ (.getfield 79) (.ref b :: r) s k = k (.ref (b + 20) :: r) s := xgf (q := (1, 20, true)) rfl (xfld_0 (by decide))
theorem xg2_82 : xhp E b rt2 Γ (.getfield 82) (.ref b :: r) s k = k (.ref (b + 22) :: r) s := xgf (q := (1, 22, true)) rfl (xfld_0 (by decide))
theorem xg2_85 : xhp E b rt2 Γ (.getfield 85) (.ref b :: r) s k = k (.ref (b + 26) :: r) s := xgf (q := (1, 26, true)) rfl (xfld_0 (by decide))
theorem xg2_88 : xhp E b rt2 Γ (.getfield 88) (.ref b :: r) s k = k (.ref (b + 21) :: r) s := xgf (q := (1, 21, true)) rfl (xfld_0 (by decide))
theorem xg2_95 : xhp E b rt2 Γ (.getfield 95) (.ref b :: r) s k = k (.ref (b + 24) :: r) s := xgf (q := (1, 24, true)) rfl (xfld_0 (by decide))
theorem xg2_102 : xhp E b rt2 Γ (.getfield 102) (.ref b :: r) s k = k (va_rf (s.V 16) :: r) s := xgf (q := (1, 16, true)) rfl (xfld_0 (by decide))
theorem xo2_112 {a : Nat} {g : zG} {l : List Value} {v : Value} {u : zX} (hf : xfree b a) (ga : g a = some (.inr (3, l))) (hv : l[0]? = some v) (hg : u.g = g) : xhp E b rt2 Γ (.getfield 112) (.ref a :: r) u k = k (v :: r) u := xgf (q := (3, 0, false)) rfl (xfld_f hf ga hv hg)
theorem xg2_122 : xhp E b rt2 Γ (.getfield 122) (.ref b :: r) s k = k (va_rf (s.V 17) :: r) s := xgf (q := (1, 17, true)) rfl (xfld_0 (by decide))
theorem xo2_125 {a : Nat} {g : zG} {l : List Value} {v : Value} {u : zX} (hf : xfree b a) (ga : g a = some (.inr (3, l))) (hv : l[3]? = some v) (hg : u.g = g) : xhp E b rt2 Γ (.getfield 125) (.ref a :: r) u k = k (v :: r) u := xgf (q := (3, 3, false)) rfl (xfld_f hf ga hv hg)
theorem xo2_128 {a : Nat} {g : zG} {l : List Value} {v : Value} {u : zX} (hf : xfree b a) (ga : g a = some (.inr (3, l))) (hv : l[2]? = some v) (hg : u.g = g) : xhp E b rt2 Γ (.getfield 128) (.ref a :: r) u k = k (v :: r) u := xgf (q := (3, 2, false)) rfl (xfld_f hf ga hv hg)
theorem xo2_137 {a : Nat} {g : zG} {l : List Value} {v : Value} {u : zX} (hf : xfree b a) (ga : g a = some (.inr (3, l))) (hv : l[1]? = some v) (hg : u.g = g) : xhp E b rt2 Γ (.getfield 137) (.ref a :: r) u k = k (v :: r) u := xgf (q := (3, 1, false)) rfl (xfld_f hf ga hv hg)
theorem xg2_153 : xhp E b rt2 Γ (.getfield 153) (.ref b :: r) s k = k (va_rf (s.V 18) :: r) s := xgf (q := (1, 18, true)) rfl (xfld_0 (by decide))
theorem xg2_172 : xhp E b rt2 Γ (.getfield 172) (.ref b :: r) s k = k (.int (s.I 27) :: r) s := xgf (q := (1, 27, true)) rfl (xfld_0 (by decide))
theorem xg2_179 : xhp E b rt2 Γ (.getfield 179) (.ref b :: r) s k = k (.int (s.I 29) :: r) s := xgf (q := (1, 29, true)) rfl (xfld_0 (by decide))
theorem xg2_182 : xhp E b rt2 Γ (.getfield 182) (.ref b :: r) s k = k (va_rf (s.V 19) :: r) s := xgf (q := (1, 19, true)) rfl (xfld_0 (by decide))
theorem xc2_71 : xhp E b rt2 Γ (.ldc 71) st s k = k (.int 1664525 :: st) s := xci rfl
theorem xc2_72 : xhp E b rt2 Γ (.ldc 72) st s k = k (.int 1013904223 :: st) s := xci rfl
theorem xo3_9 {a : Nat} {g : zG} {l : List Value} {v : Value} {u : zX} (hf : xfree b a) (ga : g a = some (.inr (3, l))) (hv : l[0]? = some v) (hg : u.g = g) : xhp E b rt3 Γ (.getfield 9) (.ref a :: r) u k = k (v :: r) u := xgf (q := (3, 0, false)) rfl (xfld_f hf ga hv hg)
theorem xo3_17 {a : Nat} {g : zG} {l : List Value} {v : Value} {u : zX} (hf : xfree b a) (ga : g a = some (.inr (3, l))) (hv : l[1]? = some v) (hg : u.g = g) : xhp E b rt3 Γ (.getfield 17) (.ref a :: r) u k = k (v :: r) u := xgf (q := (3, 1, false)) rfl (xfld_f hf ga hv hg)
theorem xo3_21 {a : Nat} {g : zG} {l : List Value} {v : Value} {u : zX} (hf : xfree b a) (ga : g a = some (.inr (3, l))) (hv : l[2]? = some v) (hg : u.g = g) : xhp E b rt3 Γ (.getfield 21) (.ref a :: r) u k = k (v :: r) u := xgf (q := (3, 2, false)) rfl (xfld_f hf ga hv hg)
theorem xo3_24 {a : Nat} {g : zG} {l : List Value} {v : Value} {u : zX} (hf : xfree b a) (ga : g a = some (.inr (3, l))) (hv : l[3]? = some v) (hg : u.g = g) : xhp E b rt3 Γ (.getfield 24) (.ref a :: r) u k = k (v :: r) u := xgf (q := (3, 3, false)) rfl (xfld_f hf ga hv hg)
theorem xo4_7 {a : Nat} {g : zG} {l : List Value} {v : Value} {u : zX} (hf : xfree b a) (ga : g a = some (.inr (4, l))) (hv : l[6]? = some v) (hg : u.g = g) : xhp E b rt4 Γ (.getfield 7) (.ref a :: r) u k = k (v :: r) u := xgf (q := (4, 6, false)) rfl (xfld_f hf ga hv hg)
theorem xo4_13 {a : Nat} {g : zG} {l : List Value} {v : Value} {u : zX} (hf : xfree b a) (ga : g a = some (.inr (4, l))) (hv : l[7]? = some v) (hg : u.g = g) : xhp E b rt4 Γ (.getfield 13) (.ref a :: r) u k = k (v :: r) u := xgf (q := (4, 7, false)) rfl (xfld_f hf ga hv hg)
theorem xo5_7 {a : Nat} {g : zG} {l : List Value} {v : Value} {u : zX} (hf : xfree b a) (ga : g a = some (.inr (5, l))) (hv : l[0]? = some v) (hg : u.g = g) : xhp E b rt5 Γ (.getfield 7) (.ref a :: r) u k = k (v :: r) u := xgf (q := (5, 0, false)) rfl (xfld_f hf ga hv hg)
theorem xo5_13 {a : Nat} {g : zG} {l : List Value} {v : Value} {u : zX} (hf : xfree b a) (ga : g a = some (.inr (5, l))) (hv : l[1]? = some v) (hg : u.g = g) : xhp E b rt5 Γ (.getfield 13) (.ref a :: r) u k = k (v :: r) u := xgf (q := (5, 1, false)) rfl (xfld_f hf ga hv hg)
theorem xo5_16 {a : Nat} {g : zG} {l : List Value} {v : Value} {u : zX} (hf : xfree b a) (ga : g a = some (.inr (5, l))) (hv : l[2]? = some v) (hg : u.g = g) : xhp E b rt5 Γ (.getfield 16) (.ref a :: r) u k = k (v :: r) u := xgf (q := (5, 2, false)) rfl (xfld_f hf ga hv hg)
theorem xo6_7 {a : Nat} {g : zG} {l : List Value} {v : Value} {u : zX} (hf : xfree b a) (ga : g a = some (.inr (6, l))) (hv : l[0]? = some v) (hg : u.g = g) : xhp E b rt6 Γ (.getfield 7) (.ref a :: r) u k = k (v :: r) u := xgf (q := (6, 0, false)) rfl (xfld_f hf ga hv hg)
theorem xo6_13 {a : Nat} {g : zG} {l : List Value} {v : Value} {u : zX} (hf : xfree b a) (ga : g a = some (.inr (6, l))) (hv : l[1]? = some v) (hg : u.g = g) : xhp E b rt6 Γ (.getfield 13) (.ref a :: r) u k = k (v :: r) u := xgf (q := (6, 1, false)) rfl (xfld_f hf ga hv hg)
theorem xo6_16 {a : Nat} {g : zG} {l : List Value} {v : Value} {u : zX} (hf : xfree b a) (ga : g a = some (.inr (6, l))) (hv : l[2]? = some v) (hg : u.g = g) : xhp E b rt6 Γ (.getfield 16) (.ref a :: r) u k = k (v :: r) u := xgf (q := (6, 2, false)) rfl (xfld_f hf ga hv hg)
theorem xo6_19 {a : Nat} {g : zG} {l : List Value} {v : Value} {u : zX} (hf : xfree b a) (ga : g a = some (.inr (6, l))) (hv : l[3]? = some v) (hg : u.g = g) : xhp E b rt6 Γ (.getfield 19) (.ref a :: r) u k = k (v :: r) u := xgf (q := (6, 3, false)) rfl (xfld_f hf ga hv hg)
theorem xo6_22 {a : Nat} {g : zG} {l : List Value} {v : Value} {u : zX} (hf : xfree b a) (ga : g a = some (.inr (6, l))) (hv : l[4]? = some v) (hg : u.g = g) : xhp E b rt6 Γ (.getfield 22) (.ref a :: r) u k = k (v :: r) u := xgf (q := (6, 4, false)) rfl (xfld_f hf ga hv hg)
theorem xo7_7 {a : Nat} {g : zG} {l : List Value} {v : Value} {u : zX} (hf : xfree b a) (ga : g a = some (.inr (7, l))) (hv : l[0]? = some v) (hg : u.g = g) : xhp E b rt7 Γ (.getfield 7) (.ref a :: r) u k = k (v :: r) u := xgf (q := (7, 0, false)) rfl (xfld_f hf ga hv hg)
theorem xo8_7 {a : Nat} {g : zG} {l : List Value} {v : Value} {u : zX} (hf : xfree b a) (ga : g a = some (.inr (8, l))) (hv : l[0]? = some v) (hg : u.g = g) : xhp E b rt8 Γ (.getfield 7) (.ref a :: r) u k = k (v :: r) u := xgf (q := (8, 0, false)) rfl (xfld_f hf ga hv hg)
theorem xo9_7 {a : Nat} {g : zG} {l : List Value} {v : Value} {u : zX} (hf : xfree b a) (ga : g a = some (.inr (9, l))) (hv : l[0]? = some v) (hg : u.g = g) : xhp E b rt9 Γ (.getfield 7) (.ref a :: r) u k = k (v :: r) u := xgf (q := (9, 0, false)) rfl (xfld_f hf ga hv hg)
theorem xo9_13 {a : Nat} {g : zG} {l : List Value} {v : Value} {u : zX} (hf : xfree b a) (ga : g a = some (.inr (9, l))) (hv : l[1]? = some v) (hg : u.g = g) : xhp E b rt9 Γ (.getfield 13) (.ref a :: r) u k = k (v :: r) u := xgf (q := (9, 1, false)) rfl (xfld_f hf ga hv hg)
theorem xo9_17 {a : Nat} {g : zG} {l : List Value} {v : Value} {u : zX} (hf : xfree b a) (ga : g a = some (.inr (9, l))) (hv : l[2]? = some v) (hg : u.g = g) : xhp E b rt9 Γ (.getfield 17) (.ref a :: r) u k = k (v :: r) u := xgf (q := (9, 2, false)) rfl (xfld_f hf ga hv hg)
theorem xo10_7 {a : Nat} {g : zG} {l : List Value} {v : Value} {u : zX} (hf : xfree b a) (ga : g a = some (.inr (10, l))) (hv : l[0]? = some v) (hg : u.g = g) : xhp E b rt10 Γ (.getfield 7) (.ref a :: r) u k = k (v :: r) u := xgf (q := (10, 0, false)) rfl (xfld_f hf ga hv hg)
theorem xc13_265 : xhp E b rt13 Γ (.ldc_w 265) st s k = k (.int 1431655765 :: st) s := xciw (x := 265) (T := rt13) rfl
theorem xc13_266 : xhp E b rt13 Γ (.ldc_w 266) st s k = k (.int 858993459 :: st) s := xciw (x := 266) (T := rt13) rfl
theorem xc13_267 : xhp E b rt13 Γ (.ldc_w 267) st s k = k (.int 252645135 :: st) s := xciw (x := 267) (T := rt13) rfl
theorem xc13_264 : xhp E b rt13 Γ (.ldc_w 264) st s k = k (.int 65536 :: st) s := xciw (x := 264) (T := rt13) rfl
theorem xbl_1 {j : Int32} : xhp E b T Γ .baload (.int j :: .ref (b + 1) :: r) s k = (vp_in j 400 ∧ k (.int (s.A 1 j.toNatClampNeg) :: r) s) := xbl (t := 2) rfl (by decide)
theorem xbs_1 {j v : Int32} : xhp E b T Γ .bastore (.int v :: .int j :: .ref (b + 1) :: r) s k = (vp_in j 400 ∧ k r (xA s 1 j.toNatClampNeg v.toInt8.toInt32)) := xbs2 rfl (by decide) rfl
theorem xln_1 : xhp E b T Γ .arraylength (.ref (b + 1) :: r) s k = k (.int 400 :: r) s := xlen (t := 2) rfl (by decide)
theorem xil_20 {j : Int32} : xhp E b T Γ .iaload (.int j :: .ref (b + 20) :: r) s k = (vp_in j 8 ∧ k (.int (s.A 20 j.toNatClampNeg) :: r) s) := xil rfl
theorem xis_20 {j v : Int32} : xhp E b T Γ .iastore (.int v :: .int j :: .ref (b + 20) :: r) s k = (vp_in j 8 ∧ k r (xA s 20 j.toNatClampNeg v)) := xias rfl (by decide) rfl
theorem xln_20 : xhp E b T Γ .arraylength (.ref (b + 20) :: r) s k = k (.int 8 :: r) s := xlen (t := 0) rfl (by decide)
theorem xil_21 {j : Int32} : xhp E b T Γ .iaload (.int j :: .ref (b + 21) :: r) s k = (vp_in j 8 ∧ k (.int (s.A 21 j.toNatClampNeg) :: r) s) := xil rfl
theorem xis_21 {j v : Int32} : xhp E b T Γ .iastore (.int v :: .int j :: .ref (b + 21) :: r) s k = (vp_in j 8 ∧ k r (xA s 21 j.toNatClampNeg v)) := xias rfl (by decide) rfl
theorem xln_21 : xhp E b T Γ .arraylength (.ref (b + 21) :: r) s k = k (.int 8 :: r) s := xlen (t := 0) rfl (by decide)
theorem xil_22 {j : Int32} : xhp E b T Γ .iaload (.int j :: .ref (b + 22) :: r) s k = (vp_in j 8 ∧ k (.int (s.A 22 j.toNatClampNeg) :: r) s) := xil rfl
theorem xis_22 {j v : Int32} : xhp E b T Γ .iastore (.int v :: .int j :: .ref (b + 22) :: r) s k = (vp_in j 8 ∧ k r (xA s 22 j.toNatClampNeg v)) := xias rfl (by decide) rfl
theorem xln_22 : xhp E b T Γ .arraylength (.ref (b + 22) :: r) s k = k (.int 8 :: r) s := xlen (t := 0) rfl (by decide)
theorem xil_23 {j : Int32} : xhp E b T Γ .iaload (.int j :: .ref (b + 23) :: r) s k = (vp_in j 8 ∧ k (.int (s.A 23 j.toNatClampNeg) :: r) s) := xil rfl
theorem xis_23 {j v : Int32} : xhp E b T Γ .iastore (.int v :: .int j :: .ref (b + 23) :: r) s k = (vp_in j 8 ∧ k r (xA s 23 j.toNatClampNeg v)) := xias rfl (by decide) rfl
theorem xln_23 : xhp E b T Γ .arraylength (.ref (b + 23) :: r) s k = k (.int 8 :: r) s := xlen (t := 0) rfl (by decide)
theorem xil_24 {j : Int32} : xhp E b T Γ .iaload (.int j :: .ref (b + 24) :: r) s k = (vp_in j 8 ∧ k (.int (s.A 24 j.toNatClampNeg) :: r) s) := xil rfl
theorem xis_24 {j v : Int32} : xhp E b T Γ .iastore (.int v :: .int j :: .ref (b + 24) :: r) s k = (vp_in j 8 ∧ k r (xA s 24 j.toNatClampNeg v)) := xias rfl (by decide) rfl
theorem xln_24 : xhp E b T Γ .arraylength (.ref (b + 24) :: r) s k = k (.int 8 :: r) s := xlen (t := 0) rfl (by decide)
theorem xil_25 {j : Int32} : xhp E b T Γ .iaload (.int j :: .ref (b + 25) :: r) s k = (vp_in j 4 ∧ k (.int (s.A 25 j.toNatClampNeg) :: r) s) := xil rfl
theorem xis_25 {j v : Int32} : xhp E b T Γ .iastore (.int v :: .int j :: .ref (b + 25) :: r) s k = (vp_in j 4 ∧ k r (xA s 25 j.toNatClampNeg v)) := xias rfl (by decide) rfl
theorem xln_25 : xhp E b T Γ .arraylength (.ref (b + 25) :: r) s k = k (.int 4 :: r) s := xlen (t := 0) rfl (by decide)
theorem xil_26 {j : Int32} : xhp E b T Γ .iaload (.int j :: .ref (b + 26) :: r) s k = (vp_in j 4 ∧ k (.int (s.A 26 j.toNatClampNeg) :: r) s) := xil rfl
theorem xis_26 {j v : Int32} : xhp E b T Γ .iastore (.int v :: .int j :: .ref (b + 26) :: r) s k = (vp_in j 4 ∧ k r (xA s 26 j.toNatClampNeg v)) := xias rfl (by decide) rfl
theorem xln_26 : xhp E b T Γ .arraylength (.ref (b + 26) :: r) s k = k (.int 4 :: r) s := xlen (t := 0) rfl (by decide)
theorem xil_27 {j : Int32} : xhp E b T Γ .iaload (.int j :: .ref (b + 27) :: r) s k = (vp_in j 10 ∧ k (.int (s.A 27 j.toNatClampNeg) :: r) s) := xil rfl
theorem xis_27 {j v : Int32} : xhp E b T Γ .iastore (.int v :: .int j :: .ref (b + 27) :: r) s k = (vp_in j 10 ∧ k r (xA s 27 j.toNatClampNeg v)) := xias rfl (by decide) rfl
theorem xln_27 : xhp E b T Γ .arraylength (.ref (b + 27) :: r) s k = k (.int 10 :: r) s := xlen (t := 0) rfl (by decide)
theorem xil_49 {j : Int32} : xhp E b T Γ .iaload (.int j :: .ref (b + 49) :: r) s k = (vp_in j 800 ∧ k (.int (s.A 49 j.toNatClampNeg) :: r) s) := xil rfl
theorem xis_49 {j v : Int32} : xhp E b T Γ .iastore (.int v :: .int j :: .ref (b + 49) :: r) s k = (vp_in j 800 ∧ k r (xA s 49 j.toNatClampNeg v)) := xias rfl (by decide) rfl
theorem xln_49 : xhp E b T Γ .arraylength (.ref (b + 49) :: r) s k = k (.int 800 :: r) s := xlen (t := 0) rfl (by decide)
theorem xbl_51 {j : Int32} : xhp E b T Γ .baload (.int j :: .ref (b + 51) :: r) s k = (vp_in j 32 ∧ k (.int (s.A 51 j.toNatClampNeg) :: r) s) := xbl (t := 1) rfl (by decide)
theorem xbs_51 {j v : Int32} : xhp E b T Γ .bastore (.int v :: .int j :: .ref (b + 51) :: r) s k = ((v = 0 ∨ v = 1) ∧ vp_in j 32 ∧ k r (xA s 51 j.toNatClampNeg v)) := xbs1 rfl (by decide) rfl
theorem xln_51 : xhp E b T Γ .arraylength (.ref (b + 51) :: r) s k = k (.int 32 :: r) s := xlen (t := 1) rfl (by decide)
theorem xbl_52 {j : Int32} : xhp E b T Γ .baload (.int j :: .ref (b + 52) :: r) s k = (vp_in j 256 ∧ k (.int (s.A 52 j.toNatClampNeg) :: r) s) := xbl (t := 1) rfl (by decide)
theorem xbs_52 {j v : Int32} : xhp E b T Γ .bastore (.int v :: .int j :: .ref (b + 52) :: r) s k = ((v = 0 ∨ v = 1) ∧ vp_in j 256 ∧ k r (xA s 52 j.toNatClampNeg v)) := xbs1 rfl (by decide) rfl
theorem xln_52 : xhp E b T Γ .arraylength (.ref (b + 52) :: r) s k = k (.int 256 :: r) s := xlen (t := 1) rfl (by decide)
theorem xbl_53 {j : Int32} : xhp E b T Γ .baload (.int j :: .ref (b + 53) :: r) s k = (vp_in j 65536 ∧ k (.int (s.A 53 j.toNatClampNeg) :: r) s) := xbl (t := 2) rfl (by decide)
theorem xbs_53 {j v : Int32} : xhp E b T Γ .bastore (.int v :: .int j :: .ref (b + 53) :: r) s k = (vp_in j 65536 ∧ k r (xA s 53 j.toNatClampNeg v.toInt8.toInt32)) := xbs2 rfl (by decide) rfl
theorem xln_53 : xhp E b T Γ .arraylength (.ref (b + 53) :: r) s k = k (.int 65536 :: r) s := xlen (t := 2) rfl (by decide)
theorem xil_54 {j : Int32} : xhp E b T Γ .iaload (.int j :: .ref (b + 54) :: r) s k = (vp_in j 4 ∧ k (.int (s.A 54 j.toNatClampNeg) :: r) s) := xil rfl
theorem xis_54 {j v : Int32} : xhp E b T Γ .iastore (.int v :: .int j :: .ref (b + 54) :: r) s k = (vp_in j 4 ∧ k r (xA s 54 j.toNatClampNeg v)) := xias rfl (by decide) rfl
theorem xln_54 : xhp E b T Γ .arraylength (.ref (b + 54) :: r) s k = k (.int 4 :: r) s := xlen (t := 0) rfl (by decide)
theorem xil_55 {j : Int32} : xhp E b T Γ .iaload (.int j :: .ref (b + 55) :: r) s k = (vp_in j 8 ∧ k (.int (s.A 55 j.toNatClampNeg) :: r) s) := xil rfl
theorem xis_55 {j v : Int32} : xhp E b T Γ .iastore (.int v :: .int j :: .ref (b + 55) :: r) s k = (vp_in j 8 ∧ k r (xA s 55 j.toNatClampNeg v)) := xias rfl (by decide) rfl
theorem xln_55 : xhp E b T Γ .arraylength (.ref (b + 55) :: r) s k = k (.int 8 :: r) s := xlen (t := 0) rfl (by decide)
theorem xil_56 {j : Int32} : xhp E b T Γ .iaload (.int j :: .ref (b + 56) :: r) s k = (vp_in j 4 ∧ k (.int (s.A 56 j.toNatClampNeg) :: r) s) := xil rfl
theorem xis_56 {j v : Int32} : xhp E b T Γ .iastore (.int v :: .int j :: .ref (b + 56) :: r) s k = (vp_in j 4 ∧ k r (xA s 56 j.toNatClampNeg v)) := xias rfl (by decide) rfl
theorem xln_56 : xhp E b T Γ .arraylength (.ref (b + 56) :: r) s k = k (.int 4 :: r) s := xlen (t := 0) rfl (by decide)
theorem xil_57 {j : Int32} : xhp E b T Γ .iaload (.int j :: .ref (b + 57) :: r) s k = (vp_in j 12 ∧ k (.int (s.A 57 j.toNatClampNeg) :: r) s) := xil rfl
theorem xis_57 {j v : Int32} : xhp E b T Γ .iastore (.int v :: .int j :: .ref (b + 57) :: r) s k = (vp_in j 12 ∧ k r (xA s 57 j.toNatClampNeg v)) := xias rfl (by decide) rfl
theorem xln_57 : xhp E b T Γ .arraylength (.ref (b + 57) :: r) s k = k (.int 12 :: r) s := xlen (t := 0) rfl (by decide)
theorem xil_58 {j : Int32} : xhp E b T Γ .iaload (.int j :: .ref (b + 58) :: r) s k = (vp_in j 12 ∧ k (.int (s.A 58 j.toNatClampNeg) :: r) s) := xil rfl
theorem xis_58 {j v : Int32} : xhp E b T Γ .iastore (.int v :: .int j :: .ref (b + 58) :: r) s k = (vp_in j 12 ∧ k r (xA s 58 j.toNatClampNeg v)) := xias rfl (by decide) rfl
theorem xln_58 : xhp E b T Γ .arraylength (.ref (b + 58) :: r) s k = k (.int 12 :: r) s := xlen (t := 0) rfl (by decide)
theorem xil_59 {j : Int32} : xhp E b T Γ .iaload (.int j :: .ref (b + 59) :: r) s k = (vp_in j 256 ∧ k (.int (s.A 59 j.toNatClampNeg) :: r) s) := xil rfl
theorem xis_59 {j v : Int32} : xhp E b T Γ .iastore (.int v :: .int j :: .ref (b + 59) :: r) s k = (vp_in j 256 ∧ k r (xA s 59 j.toNatClampNeg v)) := xias rfl (by decide) rfl
theorem xln_59 : xhp E b T Γ .arraylength (.ref (b + 59) :: r) s k = k (.int 256 :: r) s := xlen (t := 0) rfl (by decide)
theorem xil_62 {j : Int32} : xhp E b T Γ .iaload (.int j :: .ref (b + 62) :: r) s k = (vp_in j 5 ∧ k (.int (s.A 62 j.toNatClampNeg) :: r) s) := xil rfl
theorem xis_62 {j v : Int32} : xhp E b T Γ .iastore (.int v :: .int j :: .ref (b + 62) :: r) s k = (vp_in j 5 ∧ k r (xA s 62 j.toNatClampNeg v)) := xias rfl (by decide) rfl
theorem xln_62 : xhp E b T Γ .arraylength (.ref (b + 62) :: r) s k = k (.int 5 :: r) s := xlen (t := 0) rfl (by decide)
theorem xil_y0 {y : Nat} {j : Int32} (hy : y < 3) : xhp E b T Γ .iaload (.int j :: .ref (b + xya y 0) :: r) s k = (vp_in j 8 ∧ k (.int (s.A (xya y 0) j.toNatClampNeg) :: r) s) := xil (xya_ok (j := 0) hy (by decide)).1
theorem xis_y0 {y : Nat} {j v : Int32} (hy : y < 3) : xhp E b T Γ .iastore (.int v :: .int j :: .ref (b + xya y 0) :: r) s k = (vp_in j 8 ∧ k r (xA s (xya y 0) j.toNatClampNeg v)) := xias (xya_ok (j := 0) hy (by decide)).1 (xya_ok (j := 0) hy (by decide)).2.1 (xya_ok (j := 0) hy (by decide)).2.2
theorem xln_y0 {y : Nat} (hy : y < 3) : xhp E b T Γ .arraylength (.ref (b + xya y 0) :: r) s k = k (.int 8 :: r) s := xlen (xya_ok (j := 0) hy (by decide)).1 (by decide)
theorem xil_y1 {y : Nat} {j : Int32} (hy : y < 3) : xhp E b T Γ .iaload (.int j :: .ref (b + xya y 1) :: r) s k = (vp_in j 8 ∧ k (.int (s.A (xya y 1) j.toNatClampNeg) :: r) s) := xil (xya_ok (j := 1) hy (by decide)).1
theorem xis_y1 {y : Nat} {j v : Int32} (hy : y < 3) : xhp E b T Γ .iastore (.int v :: .int j :: .ref (b + xya y 1) :: r) s k = (vp_in j 8 ∧ k r (xA s (xya y 1) j.toNatClampNeg v)) := xias (xya_ok (j := 1) hy (by decide)).1 (xya_ok (j := 1) hy (by decide)).2.1 (xya_ok (j := 1) hy (by decide)).2.2
theorem xln_y1 {y : Nat} (hy : y < 3) : xhp E b T Γ .arraylength (.ref (b + xya y 1) :: r) s k = k (.int 8 :: r) s := xlen (xya_ok (j := 1) hy (by decide)).1 (by decide)
theorem xil_y2 {y : Nat} {j : Int32} (hy : y < 3) : xhp E b T Γ .iaload (.int j :: .ref (b + xya y 2) :: r) s k = (vp_in j 8 ∧ k (.int (s.A (xya y 2) j.toNatClampNeg) :: r) s) := xil (xya_ok (j := 2) hy (by decide)).1
theorem xis_y2 {y : Nat} {j v : Int32} (hy : y < 3) : xhp E b T Γ .iastore (.int v :: .int j :: .ref (b + xya y 2) :: r) s k = (vp_in j 8 ∧ k r (xA s (xya y 2) j.toNatClampNeg v)) := xias (xya_ok (j := 2) hy (by decide)).1 (xya_ok (j := 2) hy (by decide)).2.1 (xya_ok (j := 2) hy (by decide)).2.2
theorem xln_y2 {y : Nat} (hy : y < 3) : xhp E b T Γ .arraylength (.ref (b + xya y 2) :: r) s k = k (.int 8 :: r) s := xlen (xya_ok (j := 2) hy (by decide)).1 (by decide)
theorem xil_y3 {y : Nat} {j : Int32} (hy : y < 3) : xhp E b T Γ .iaload (.int j :: .ref (b + xya y 3) :: r) s k = (vp_in j 8 ∧ k (.int (s.A (xya y 3) j.toNatClampNeg) :: r) s) := xil (xya_ok (j := 3) hy (by decide)).1
theorem xis_y3 {y : Nat} {j v : Int32} (hy : y < 3) : xhp E b T Γ .iastore (.int v :: .int j :: .ref (b + xya y 3) :: r) s k = (vp_in j 8 ∧ k r (xA s (xya y 3) j.toNatClampNeg v)) := xias (xya_ok (j := 3) hy (by decide)).1 (xya_ok (j := 3) hy (by decide)).2.1 (xya_ok (j := 3) hy (by decide)).2.2
theorem xln_y3 {y : Nat} (hy : y < 3) : xhp E b T Γ .arraylength (.ref (b + xya y 3) :: r) s k = k (.int 8 :: r) s := xlen (xya_ok (j := 3) hy (by decide)).1 (by decide)
theorem xil_y4 {y : Nat} {j : Int32} (hy : y < 3) : xhp E b T Γ .iaload (.int j :: .ref (b + xya y 4) :: r) s k = (vp_in j 4 ∧ k (.int (s.A (xya y 4) j.toNatClampNeg) :: r) s) := xil (xya_ok (j := 4) hy (by decide)).1
theorem xis_y4 {y : Nat} {j v : Int32} (hy : y < 3) : xhp E b T Γ .iastore (.int v :: .int j :: .ref (b + xya y 4) :: r) s k = (vp_in j 4 ∧ k r (xA s (xya y 4) j.toNatClampNeg v)) := xias (xya_ok (j := 4) hy (by decide)).1 (xya_ok (j := 4) hy (by decide)).2.1 (xya_ok (j := 4) hy (by decide)).2.2
theorem xln_y4 {y : Nat} (hy : y < 3) : xhp E b T Γ .arraylength (.ref (b + xya y 4) :: r) s k = k (.int 4 :: r) s := xlen (xya_ok (j := 4) hy (by decide)).1 (by decide)
theorem xil_y5 {y : Nat} {j : Int32} (hy : y < 3) : xhp E b T Γ .iaload (.int j :: .ref (b + xya y 5) :: r) s k = (vp_in j 8 ∧ k (.int (s.A (xya y 5) j.toNatClampNeg) :: r) s) := xil (xya_ok (j := 5) hy (by decide)).1
theorem xis_y5 {y : Nat} {j v : Int32} (hy : y < 3) : xhp E b T Γ .iastore (.int v :: .int j :: .ref (b + xya y 5) :: r) s k = (vp_in j 8 ∧ k r (xA s (xya y 5) j.toNatClampNeg v)) := xias (xya_ok (j := 5) hy (by decide)).1 (xya_ok (j := 5) hy (by decide)).2.1 (xya_ok (j := 5) hy (by decide)).2.2
theorem xln_y5 {y : Nat} (hy : y < 3) : xhp E b T Γ .arraylength (.ref (b + xya y 5) :: r) s k = k (.int 8 :: r) s := xlen (xya_ok (j := 5) hy (by decide)).1 (by decide)
end XDN
theorem xyn_y {b y : Nat} : xyn b (b + xyo y) = y := by unfold xyn xyo; omega
theorem xya_ne {y j z i : Nat} (hj : j < 7) (hi : i < 7) (h : ¬ (y = z ∧ j = i)) : xya y j ≠ xya z i := by
  unfold xya
  intro q
  apply h
  constructor <;> omega
theorem xya_lit {y j h : Nat} (hy : y < 3) (hj : j < 6) (hh : (h < 29 || 48 < h) = true) : h ≠ xya y j := by
  unfold xya
  simp at hh
  omega
theorem xyi_ne {y j z i : Nat} (hj : j < 20) (hi : i < 20) (h : ¬ (y = z ∧ j = i)) : xyi y j ≠ xyi z i := by
  unfold xyi
  intro q
  apply h
  constructor <;> omega
theorem xyi_lit {y j q : Nat} (hq : q < 100) : q ≠ xyi y j := by unfold xyi; omega
section XRW
variable {s : zX} {y j h i : Nat} {v : Int32} {f : Nat → Int32}
theorem xAy_l (hy : y < 3) (hj : j < 6) (hh : (h < 29 || 48 < h) = true) : (xA s (xya y j) i v).A h = s.A h := xA_o (xya_lit hy hj hh)
theorem xAl_y (hy : y < 3) (hj : j < 6) (hh : (h < 29 || 48 < h) = true) : (xA s h i v).A (xya y j) = s.A (xya y j) := xA_o fun e => xya_lit hy hj hh e.symm
theorem xBl_y (hy : y < 3) (hj : j < 6) (hh : (h < 29 || 48 < h) = true) : (xB s h f).A (xya y j) = s.A (xya y j) := xB_o fun e => xya_lit hy hj hh e.symm
theorem xBy_l (hy : y < 3) (hj : j < 6) (hh : (h < 29 || 48 < h) = true) : (xB s (xya y j) f).A h = s.A h := xB_o (xya_lit hy hj hh)
theorem xAy_j {j' : Nat} (hj : j < 7) (hj' : j' < 7) (hn : j' ≠ j) : (xA s (xya y j) i v).A (xya y j') = s.A (xya y j') := xA_o (xya_ne hj' hj fun e => hn e.2)
theorem xBy_j {j' : Nat} (hj : j < 7) (hj' : j' < 7) (hn : j' ≠ j) : (xB s (xya y j) f).A (xya y j') = s.A (xya y j') := xB_o (xya_ne hj' hj fun e => hn e.2)
theorem xI_s : (xI s j v).I j = v := by rw [xI_I, if_pos rfl]
theorem xI_o {q : Nat} (hq : q ≠ j) : (xI s j v).I q = s.I q := by rw [xI_I, if_neg hq]
theorem xIy_l {q : Nat} (hq : q < 100) : (xI s (xyi y j) v).I q = s.I q := xI_o (xyi_lit hq)
theorem xIl_y {q : Nat} (hq : q < 100) : (xI s q v).I (xyi y j) = s.I (xyi y j) := xI_o fun e => xyi_lit hq e.symm
theorem xIy_j {j' : Nat} (hj : j < 20) (hj' : j' < 20) (hn : j' ≠ j) : (xI s (xyi y j) v).I (xyi y j') = s.I (xyi y j') := xI_o (xyi_ne hj' hj fun e => hn e.2)
theorem xV_s {q : Option Nat} : (xV s j q).V j = q := by rw [xV_V, if_pos rfl]
theorem xV_o {q : Option Nat} {i : Nat} (hq : i ≠ j) : (xV s j q).V i = s.V i := by rw [xV_V, if_neg hq]
end XRW
