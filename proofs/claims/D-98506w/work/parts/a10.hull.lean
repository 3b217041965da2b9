/-! ===== the rows of records ===== -/
theorem va_rf_s {a : Nat} : va_rf (some a) = .ref a := rfl
theorem va_rf_0 : va_rf none = .null := rfl
theorem vp_in_le {x : Int32} {n : Nat} (h : vp_in x (n + 1)) (hn : n < 1000) : ∃ k, k ≤ n ∧ x = nI k := by
  obtain ⟨k, h1, h2⟩ := vp_in_of h (by omega)
  exact ⟨k, by omega, h2⟩
section XROW
variable {E : zEnv} {b : Nat} {V : Nat → Option Nat} {g : zG} {w : Nat → Int32} {u : zX} {T : rTb} {Γ : zΓ zX} {r : List Value} {k : List Value → zX → Prop} {i W : Nat}
theorem xHl (h : xHull E b V g w) (hg : u.g = g) : xhp E b T Γ .arraylength (.ref (xhA V) :: r) u k = k (.int (w 98) :: r) u := by
  obtain ⟨h1, hf, ⟨W, f, e1, e2, e3⟩, -⟩ := h
  show rlen E (xG E b u (xhA V)) (fun N => k (.int (Int32.ofNat N) :: r) u) = _
  rw [xG_free hf, hg, e3, e1]
  exact propext ⟨fun q => q.2, fun q => ⟨⟨3, by decide, rfl⟩, q⟩⟩
theorem xHa (h : xHull E b V g w) (hW : w 98 = nI W) (hW8 : W ≤ 8) (hg : u.g = g) (hi : i < W) : xhp E b T Γ .aaload (.int (nI i) :: .ref (xhA V) :: r) u k = k (.ref (xwk V g i) :: r) u := by
  obtain ⟨h1, hf, ⟨W', f, e1, e2, e3⟩, h4⟩ := h
  rw [hW, nI_cl (by omega)] at h4
  have e5 := (h4 i hi).1
  have : W' = W := by
    rw [hW] at e1
    exact ((nI_eq (by omega) (by omega)).mp e1).symm
  subst this
  show rrefs E (xG E b u (xhA V)) _ = _
  rw [xG_free hf, hg, e3]
  rw [e3] at e5
  have e6 : f i = some (xwk V g i) := e5
  have hv : vp_in (nI i) W' := vp_in_nI hi (by omega)
  show ((∃ t, 3 ≤ t ∧ t < 10 ∧ E.dA 3 = E.dA t) ∧ vp_in (nI i) W' ∧ k (va_rf (f (nI i).toNatClampNeg) :: r) u) = _
  rw [nI_cl (by omega), e6]
  exact propext ⟨fun q => q.2.2, fun q => ⟨⟨3, by decide, by decide, rfl⟩, hv, q⟩⟩
theorem xHat (h : xHull E b V g w) (hW : w 98 = nI W) (hW8 : W ≤ 8) (hi : i < W) : xfree b (xwk V g i) ∧ g (xwk V g i) = some (.inr (5, [.int (w (142 + 3 * i)), .int (w (142 + 3 * i + 1)), .int (w (142 + 3 * i + 2))])) := by
  obtain ⟨-, -, -, h4⟩ := h
  rw [hW, nI_cl (by omega)] at h4
  exact (h4 i hi).2
theorem xHw (h : xHull E b V g w) (hW : w 98 = nI W) (hW8 : W ≤ 8) (hi : i < W) : xisW b g (xwk V g i) = True := eq_true ⟨(xHat h hW hW8 hi).1, _, _, _, (xHat h hW hW8 hi).2⟩
theorem xHi (h : xHull E b V g w) (hW : w 98 = nI W) (hW8 : W ≤ 8) (hg : u.g = g) (hi : i < W) : xis b u 5 (xwk V g i) = True := eq_true ⟨(xHat h hW hW8 hi).1, _, by rw [hg]; exact (xHat h hW hW8 hi).2⟩
theorem xHk (h : xHull E b V g w) (hW : w 98 = nI W) (hW8 : W ≤ 8) (hi : i < W) : xint (g (xwk V g i)) 0 = w (142 + 3 * i) := by rw [(xHat h hW hW8 hi).2]; rfl
theorem xHt (h : xHull E b V g w) (hW : w 98 = nI W) (hW8 : W ≤ 8) (hi : i < W) : xint (g (xwk V g i)) 1 = w (142 + 3 * i + 1) := by rw [(xHat h hW hW8 hi).2]; rfl
theorem xHf (h : xHull E b V g w) (hW : w 98 = nI W) (hW8 : W ≤ 8) (hi : i < W) : xint (g (xwk V g i)) 2 = w (142 + 3 * i + 2) := by rw [(xHat h hW hW8 hi).2]; rfl
theorem xOl (h : xRota E b V g w) (hg : u.g = g) : xhp E b T Γ .arraylength (.ref (xtA V) :: r) u k = k (.int (w 99) :: r) u := by
  obtain ⟨h1, hf, ⟨W, f, e1, e2, e3⟩, -⟩ := h
  show rlen E (xG E b u (xtA V)) (fun N => k (.int (Int32.ofNat N) :: r) u) = _
  rw [xG_free hf, hg, e3, e1]
  exact propext ⟨fun q => q.2, fun q => ⟨⟨4, by decide, rfl⟩, q⟩⟩
theorem xOa (h : xRota E b V g w) (hW : w 99 = nI W) (hW8 : W ≤ 20) (hg : u.g = g) (hi : i < W) : xhp E b T Γ .aaload (.int (nI i) :: .ref (xtA V) :: r) u k = k (.ref (xtn V g i) :: r) u := by
  obtain ⟨h1, hf, ⟨W', f, e1, e2, e3⟩, h4⟩ := h
  rw [hW, nI_cl (by omega)] at h4
  have e5 := (h4 i hi).1
  have : W' = W := by
    rw [hW] at e1
    exact ((nI_eq (by omega) (by omega)).mp e1).symm
  subst this
  show rrefs E (xG E b u (xtA V)) _ = _
  rw [xG_free hf, hg, e3]
  rw [e3] at e5
  have e6 : f i = some (xtn V g i) := e5
  have hv : vp_in (nI i) W' := vp_in_nI hi (by omega)
  show ((∃ t, 3 ≤ t ∧ t < 10 ∧ E.dA 4 = E.dA t) ∧ vp_in (nI i) W' ∧ k (va_rf (f (nI i).toNatClampNeg) :: r) u) = _
  rw [nI_cl (by omega), e6]
  exact propext ⟨fun q => q.2.2, fun q => ⟨⟨4, by decide, by decide, rfl⟩, hv, q⟩⟩
theorem xOat (h : xRota E b V g w) (hW : w 99 = nI W) (hW8 : W ≤ 20) (hi : i < W) : xfree b (xtn V g i) ∧ g (xtn V g i) = some (.inr (6, [.int (w (166 + 5 * i)), .int (w (166 + 5 * i + 1)), .int (w (166 + 5 * i + 2)), .int (w (166 + 5 * i + 3)), .int (w (166 + 5 * i + 4))])) := by
  obtain ⟨-, -, -, h4⟩ := h
  rw [hW, nI_cl (by omega)] at h4
  exact ⟨(h4 i hi).2.1, (h4 i hi).2.2.1⟩
theorem xOr (h : xRota E b V g w) (hW : w 99 = nI W) (hW8 : W ≤ 20) (hi : i < W) : ∃ t j f h : Nat, w (166 + 5 * i) = nI t ∧ t < (w 96).toNatClampNeg ∧ w (166 + 5 * i + 2) = nI j ∧ j < (w 98).toNatClampNeg ∧ w (166 + 5 * i + 3) = nI f ∧ f ≤ 9999 ∧ w (166 + 5 * i + 4) = nI h ∧ 1 ≤ h ∧ h ≤ 99 := by
  obtain ⟨-, -, -, h4⟩ := h
  rw [hW, nI_cl (by omega)] at h4
  exact (h4 i hi).2.2.2
theorem xOw (h : xRota E b V g w) (hW : w 99 = nI W) (hW8 : W ≤ 20) (hi : i < W) : xisR b g (xtn V g i) = True := eq_true ⟨(xOat h hW hW8 hi).1, _, _, _, _, _, (xOat h hW hW8 hi).2⟩
theorem xOi (h : xRota E b V g w) (hW : w 99 = nI W) (hW8 : W ≤ 20) (hg : u.g = g) (hi : i < W) : xis b u 6 (xtn V g i) = True := eq_true ⟨(xOat h hW hW8 hi).1, _, by rw [hg]; exact (xOat h hW hW8 hi).2⟩
theorem xO0 (h : xRota E b V g w) (hW : w 99 = nI W) (hW8 : W ≤ 20) (hi : i < W) : xint (g (xtn V g i)) 0 = w (166 + 5 * i) := by rw [(xOat h hW hW8 hi).2]; rfl
theorem xO1 (h : xRota E b V g w) (hW : w 99 = nI W) (hW8 : W ≤ 20) (hi : i < W) : xint (g (xtn V g i)) 1 = w (166 + 5 * i + 1) := by rw [(xOat h hW hW8 hi).2]; rfl
theorem xO2 (h : xRota E b V g w) (hW : w 99 = nI W) (hW8 : W ≤ 20) (hi : i < W) : xint (g (xtn V g i)) 2 = w (166 + 5 * i + 2) := by rw [(xOat h hW hW8 hi).2]; rfl
theorem xO3 (h : xRota E b V g w) (hW : w 99 = nI W) (hW8 : W ≤ 20) (hi : i < W) : xint (g (xtn V g i)) 3 = w (166 + 5 * i + 3) := by rw [(xOat h hW hW8 hi).2]; rfl
theorem xO4 (h : xRota E b V g w) (hW : w 99 = nI W) (hW8 : W ≤ 20) (hi : i < W) : xint (g (xtn V g i)) 4 = w (166 + 5 * i + 4) := by rw [(xOat h hW hW8 hi).2]; rfl
end XROW
section XFC2
variable {E : zEnv} {b : Nat} {s : zX} {y : Nat}
theorem xR.nm (h : xR E b s y) : ∃ M, M ≤ 4 ∧ xw s y 97 = nI M := vp_in_le h.inv.1.2.2.2.2.2.1 (by decide)
theorem xR.nw (h : xR E b s y) : ∃ W, W ≤ 8 ∧ xw s y 98 = nI W := vp_in_le h.inv.1.2.2.2.2.2.2.1 (by decide)
theorem xR.nr (h : xR E b s y) : ∃ R, R ≤ 20 ∧ xw s y 99 = nI R := vp_in_le h.inv.1.2.2.2.2.2.2.2.1 (by decide)
theorem xR.nc (h : xR E b s y) : ∃ C, C ≤ 12 ∧ xw s y 104 = nI C := vp_in_le h.inv.1.2.2.2.2.2.2.2.2.1 (by decide)
theorem xR.nb (h : xR E b s y) : ∃ B, B ≤ 200 ∧ xw s y 2 = nI B := vp_in_le h.inv.1.2.2.2.2.2.2.2.2.2 (by decide)
theorem xR.br (h : xR E b s y) {t : Nat} (ht : t < 8) : ∃ B, B < 4 ∧ xw s y (16 + 10 * t + 1) = nI B := vp_in_of (h.inv.1.2.2.2.1 t ht) (by decide)
end XFC2
