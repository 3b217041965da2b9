/-! ToolUnionModel: faults, steps, a unit -/
def yp (s : zM) : Nat := (s.1 19).toNatClampNeg
/-- a text is being read: the token at yp s is read -/
def ypar (s : zM) : Prop := ytape s ∧ ytok s (yp s) ∧ yp s ≤ yN s
def yfe (s u : zM) : Prop := (∀ q, q ≠ 6 → u.2 q = s.2 q) ∧ ∀ j, j ≠ 14 → j ≠ 17 → j ≠ 18 → j ≠ 19 → j ≠ 20 → j ≠ 21 → j ≠ 22 → j ≠ 24 → u.1 j = s.1 j
theorem yfe.rf {s : zM} : yfe s s := ⟨fun _ _ => rfl, fun _ _ _ _ _ _ _ _ _ => rfl⟩
theorem yfe.tr {s u v : zM} (h : yfe s u) (g : yfe u v) : yfe s v := ⟨fun q hq => (g.1 q hq).trans (h.1 q hq), fun j a b c d e f k l => (g.2 j a b c d e f k l).trans (h.2 j a b c d e f k l)⟩
theorem yfe.F {s u : zM} (h : yfe s u) {j : Nat} {v : Int32} (hj : j = 14 ∨ j = 17 ∨ j = 18 ∨ j = 19 ∨ j = 20 ∨ j = 21 ∨ j = 22 ∨ j = 24) : yfe s (zF u j v) := ⟨h.1, fun i a b c d e f k l => by rw [zF_1, if_neg (by omega)]; exact h.2 i a b c d e f k l⟩
theorem yfe.N {s u : zM} (h : yfe s u) : yN u = yN s := by unfold yN; rw [h.2 16 (by omega) (by omega) (by omega) (by omega) (by omega) (by omega) (by omega) (by omega)]
theorem yfe.e8 {s u : zM} (h : yfe s u) : u.2 8 = s.2 8 := h.1 8 (by omega)
theorem yfe.e12 {s u : zM} (h : yfe s u) : u.1 12 = s.1 12 := h.2 12 (by omega) (by omega) (by omega) (by omega) (by omega) (by omega) (by omega) (by omega)
/-- two steps that are worth the same -/
def ysim1 (a b : Int32 × Int32) : Prop := b.1 = a.1 ∧ (yin a.1 1 10 = true ∨ b.2 = a.2)
/-- behind s the steps of c are laid -/
def ylaid6 (s u : zM) (c : List (Int32 × Int32)) : Prop := ∃ k : Nat, s.1 14 = nI k ∧ k + c.length < 1000 ∧ u.1 14 = nI (k + c.length) ∧ (∀ i, i < 2 * k → u.2 6 i = s.2 6 i) ∧ ∀ i a, c[i]? = some a → ysim1 a (u.2 6 (2 * (k + i)), u.2 6 (2 * (k + i) + 1))
theorem ylaid6.nil {s u : zM} {k : Nat} (h : s.1 14 = nI k) (hk : k < 1000) (h1 : u.1 14 = s.1 14) (h2 : u.2 6 = s.2 6) : ylaid6 s u [] := ⟨k, h, hk, by rw [h1, h]; rfl, fun i _ => by rw [h2], fun i a q => by cases q⟩
theorem ylaid6.same {s s' u u' : zM} {c : List (Int32 × Int32)} (h : ylaid6 s u c) (h1 : s'.1 14 = s.1 14) (h2 : s'.2 6 = s.2 6) (h3 : u'.1 14 = u.1 14) (h4 : u'.2 6 = u.2 6) : ylaid6 s' u' c := by
  obtain ⟨k, a, z, b, d, e⟩ := h
  exact ⟨k, by rw [h1]; exact a, z, by rw [h3]; exact b, by rw [h2, h4]; exact d, by rw [h4]; exact e⟩
theorem ylaid6.app {s u v : zM} {c c2 : List (Int32 × Int32)} (h : ylaid6 s u c) (g : ylaid6 u v c2) : ylaid6 s v (c ++ c2) := by
  obtain ⟨k, a, z, b, d, e⟩ := h
  obtain ⟨k', a', z', b', d', e'⟩ := g
  rw [b] at a'
  have hk : k' = k + c.length := ((nI_eq (by omega) (by omega)).mp a').symm
  subst hk
  refine ⟨k, a, by rw [List.length_append]; omega, by rw [List.length_append, ← Nat.add_assoc]; exact b', fun i hi => ?_, fun i x hx => ?_⟩
  · rw [d' i (by omega)]
    exact d i hi
  · by_cases l : i < c.length
    · rw [List.getElem?_append_left l] at hx
      have := e i x hx
      rw [d' (2 * (k + i)) (by omega), d' (2 * (k + i) + 1) (by omega)]
      exact this
    · rw [List.getElem?_append_right (by omega)] at hx
      have := e' (i - c.length) x hx
      rw [show k + c.length + (i - c.length) = k + i by omega] at this
      exact this
/-- what lay does -/
def ylayS (s : zM) (x v : Int32) : zM := zF (zB s 6 (upd (upd (s.2 6) (2 * (s.1 14).toNatClampNeg) x) (2 * (s.1 14).toNatClampNeg + 1) v)) 14 (nI ((s.1 14).toNatClampNeg + 1))
theorem ylaid6.one {s : zM} {k : Nat} {x v x' v' : Int32} (h : s.1 14 = nI k) (hk : k < 999) (hs : ysim1 (x', v') (x, v)) : ylaid6 s (ylayS s x v) [(x', v')] := by
  unfold ylayS
  rw [h, nI_clamp (by omega)]
  refine ⟨k, h, by simp only [List.length_cons, List.length_nil]; omega, rfl, fun i hi => ?_, fun i a q => ?_⟩
  · rw [zF_2, zB_2s, upd_n (by omega), upd_n (by omega)]
  · cases i with
    | zero =>
      cases q
      rw [zF_2, zB_2s]
      simp only [Nat.add_zero]
      rw [upd_n (by omega), upd_s, upd_s]
      exact hs
    | succ i => cases q
def ypre (s : zM) : Prop := ypar s ∧ ∃ k : Nat, s.1 14 = nI k ∧ k ≤ yp s
def ynx (s u : zM) : Prop := u.2 = s.2 ∧ ypar u ∧ yp u = yX (s.2 8) (yN s) (yp s) ∧ ∀ j, j ≠ 17 → j ≠ 18 → j ≠ 19 → j ≠ 20 → u.1 j = s.1 j
theorem ynx.fe {s u : zM} (h : ynx s u) : yfe s u := ⟨fun q _ => by rw [h.1], fun j _ a b c d _ _ _ => h.2.2.2 j a b c d⟩
def yno (s u : zM) (k : Int32) (q : Nat) : Prop := yfe s u ∧ u.1 21 = k ∧ u.1 22 = nI q
def yok (s u : zM) (c : List (Int32 × Int32)) (q : Nat) : Prop := yfe s u ∧ ypar u ∧ yp u = q ∧ u.1 24 = s.1 24 ∧ ylaid6 s u c
def yRQ (r : yRes) (s u : zM) : Prop := match r with
  | .inl (k, q) => yno s u k q
  | .inr (c, q) => yok s u c q
def yRb (r : yRes) : Bool := match r with
  | .inl _ => false
  | .inr _ => true
/-- behind next0 -/
theorem ynx_of {s u : zM} {p : Nat} (hp : ypar s) (h1 : u.2 = s.2) (h2 : ytok u (yskip (s.2 8) (yN s) (s.1 17).toNatClampNeg)) (h3 : ∀ j, j ≠ 17 → j ≠ 18 → j ≠ 19 → j ≠ 20 → u.1 j = s.1 j) : ynx s u := by
  obtain ⟨⟨a1, a2, a3⟩, ⟨b1, b2, b3, b4⟩, c⟩ := hp
  have hle := ytend_le (tp := s.2 8) c
  have e17 : (s.1 17).toNatClampNeg = ytend (s.2 8) (yN s) (yp s) := by rw [b2, nI_clamp (by omega)]
  rw [e17] at h2
  have hN : yN u = yN s := by unfold yN; rw [h3 16 (by omega) (by omega) (by omega) (by omega)]
  have hl2 := yrun_le (B := yblank) (tp := s.2 8) (n := yN s) (p := ytend (s.2 8) (yN s) (yp s)) hle.2
  have hl3 : yskip (s.2 8) (yN s) (ytend (s.2 8) (yN s) (yp s)) ≤ yN s := hl2.2
  have hyp : yp u = yX (s.2 8) (yN s) (yp s) := by
    unfold yp
    rw [h2.1, nI_clamp (by omega)]
    rfl
  refine ⟨h1, ⟨⟨by rw [hN, h3 16 (by omega) (by omega) (by omega) (by omega)]; exact a1, by rw [hN]; exact a2, fun k hk => by rw [h1]; rw [hN] at hk; exact a3 k hk⟩, ?_, ?_⟩, hyp, h3⟩
  · rw [hyp]; exact h2
  · rw [hyp, hN]; exact hl3
theorem ypar_n0 {s : zM} (h : ypar s) : ytape s ∧ ∃ a : Nat, s.1 17 = nI a ∧ a ≤ yN s := by
  obtain ⟨a, ⟨b1, b2, b3, b4⟩, c⟩ := h
  exact ⟨a, _, b2, (ytend_le c).2⟩
def T_X3_bad : zT zM := zf1 (fun _ _ => True) (fun _ _ => some (.int 0)) (fun k s => zF (zF s 21 k) 22 (s.1 19))
abbrev G_X3_bad : zΓ zM := []
theorem Z_X3_bad_0 {σ : Type} {ret : Option FieldType} {hp : Instr → List Value → σ → (List Value → σ → Prop) → Prop} {K : Option Value → σ → Prop} {S : Nat → zL → List Value → σ → Prop} {L : zL} {s : σ} {st : List Value} : zone ret hp K cX3_bad S 0 L st s = (zlda L 0 fun v => S 1 L (v :: st) s) := zone_of dX3_bad_0 rfl
theorem Z_X3_bad_1 {σ : Type} {ret : Option FieldType} {hp : Instr → List Value → σ → (List Value → σ → Prop) → Prop} {K : Option Value → σ → Prop} {S : Nat → zL → List Value → σ → Prop} {L : zL} {s : σ} {st : List Value} : zone ret hp K cX3_bad S 1 L st s = (zldi L 1 fun v => S 2 L (v :: st) s) := zone_of dX3_bad_1 rfl
theorem Z_X3_bad_2 {σ : Type} {ret : Option FieldType} {hp : Instr → List Value → σ → (List Value → σ → Prop) → Prop} {K : Option Value → σ → Prop} {S : Nat → zL → List Value → σ → Prop} {L : zL} {s : σ} {st : List Value} : zone ret hp K cX3_bad S 2 L st s = (hp (.putfield 212) st s (fun st' s' => S 5 L st' s')) := zone_of dX3_bad_2 rfl
theorem Z_X3_bad_5 {σ : Type} {ret : Option FieldType} {hp : Instr → List Value → σ → (List Value → σ → Prop) → Prop} {K : Option Value → σ → Prop} {S : Nat → zL → List Value → σ → Prop} {L : zL} {s : σ} {st : List Value} : zone ret hp K cX3_bad S 5 L st s = (zlda L 0 fun v => S 6 L (v :: st) s) := zone_of dX3_bad_5 rfl
theorem Z_X3_bad_6 {σ : Type} {ret : Option FieldType} {hp : Instr → List Value → σ → (List Value → σ → Prop) → Prop} {K : Option Value → σ → Prop} {S : Nat → zL → List Value → σ → Prop} {L : zL} {s : σ} {st : List Value} : zone ret hp K cX3_bad S 6 L st s = (zlda L 0 fun v => S 7 L (v :: st) s) := zone_of dX3_bad_6 rfl
theorem Z_X3_bad_7 {σ : Type} {ret : Option FieldType} {hp : Instr → List Value → σ → (List Value → σ → Prop) → Prop} {K : Option Value → σ → Prop} {S : Nat → zL → List Value → σ → Prop} {L : zL} {s : σ} {st : List Value} : zone ret hp K cX3_bad S 7 L st s = (hp (.getfield 110) st s (fun st' s' => S 10 L st' s')) := zone_of dX3_bad_7 rfl
theorem Z_X3_bad_10 {σ : Type} {ret : Option FieldType} {hp : Instr → List Value → σ → (List Value → σ → Prop) → Prop} {K : Option Value → σ → Prop} {S : Nat → zL → List Value → σ → Prop} {L : zL} {s : σ} {st : List Value} : zone ret hp K cX3_bad S 10 L st s = (hp (.putfield 215) st s (fun st' s' => S 13 L st' s')) := zone_of dX3_bad_10 rfl
theorem Z_X3_bad_13 {σ : Type} {ret : Option FieldType} {hp : Instr → List Value → σ → (List Value → σ → Prop) → Prop} {K : Option Value → σ → Prop} {S : Nat → zL → List Value → σ → Prop} {L : zL} {s : σ} {st : List Value} : zone ret hp K cX3_bad S 13 L st s = (S 14 L (.int 0 :: st) s) := zone_iconst dX3_bad_13 (by decide)
theorem Z_X3_bad_14 {σ : Type} {ret : Option FieldType} {hp : Instr → List Value → σ → (List Value → σ → Prop) → Prop} {K : Option Value → σ → Prop} {S : Nat → zL → List Value → σ → Prop} {L : zL} {s : σ} {v : Int32} : zone ret hp K cX3_bad S 14 L [.int v] s = (zretI ret v ∧ K (some (.int v)) s) := zone_of dX3_bad_14 rfl
theorem TE_X3_bad {k : Int32} {s : zM} {K : Option Value → zM → Prop} : T_X3_bad [.int k] s K = ((fun _ _ => True) k s ∧ K ((fun _ _ => some (.int 0)) k s) ((fun k s => zF (zF s 21 k) 22 (s.1 19)) k s)) := rfl
set_option maxRecDepth 100000 in
set_option maxHeartbeats 4000000 in
theorem B_X3_bad {E : zEnv} (b : Nat) (k : Int32) (s : zM) (K : Option Value → zM → Prop) (hT : T_X3_bad [.int k] s K) (S : Nat → zL → List Value → zM → Prop) (hm : zMono (zMhp E b G_X3_bad)) (hc : zClosed (some .boolean) (zMhp E b G_X3_bad) K cX3_bad S) : S 0 [some (.ref b), some (.int k)] [] s := by
  obtain ⟨-, hK⟩ := hT
  dsimp only at hK
  refine zgo hm hc (fun _ => false) 40 ?_
  simp (config := {decide := true, maxSteps := 1000000}) (disch := first | rfl | decide | omega) only [↓Z_X3_bad_0, ↓Z_X3_bad_1, ↓Z_X3_bad_2, ↓Z_X3_bad_5, ↓Z_X3_bad_6, ↓Z_X3_bad_7, ↓Z_X3_bad_10, ↓Z_X3_bad_13, ↓Z_X3_bad_14, ↓reduceIte, ↓zrun_stop, ↓zrun_step, ↓zb2_i, ↓zb1_i, ↓zldi_0, ↓zldi_s, ↓zlda_0, ↓zlda_n, ↓zlda_s, ↓zsc_0, ↓zsc_s, ↓zsti_c, ↓zsta_r, ↓zsta_n, ↓zic_0, ↓zic_s, ↓zpush_s, ↓zpush_n, ↓zfew_0, ↓zfew_i, ↓zfew_r, ↓zfew_n, ↓zMg'_110, ↓zMp'_212, ↓zMp'_215, zcat_int, zcat_ref, zcat_null, zret_int, zret_b0, zret_b1, zret_b, Nat.reduceAdd, Nat.reduceSub, Nat.reduceLT, Nat.reduceEqDiff, Nat.reduceBEq, Nat.reduceBNe, true_and, and_true, if_true, if_false, Bool.false_eq_true, Bool.true_eq_false, Bool.or_self, Bool.or_false, Bool.or_true, Bool.false_or, Bool.true_or, zbi_e0, zbi_e1, eq_self, reduceCtorEq, Fin.isValue, zent, List.map_cons, List.map_nil, List.length_cons, List.length_nil, List.replicate, List.cons_append, List.nil_append, List.append_nil, Nat.zero_add, Nat.add_zero, zF_1, zF_2, zA_1, zA_2s, zA_2n, zB_1, zB_2s, zB_2n, not_true_eq_false, not_false_eq_true, Int32.reduceLT, Int32.reduceAdd, Int32.reduceSub, Int32.reduceMul, ne_eq, Int32.reduceToNatClampNeg, zlit_vp, nI_al, nI_la, nI_lm, nI_ml, nI_ltl, nI_llt, nI_eql, nI_lt2, nI_eq2, nI_vp, nI_cl, nI_add, pk_mul, nI_divl, nI_sub2, nI_lsub, nI_ne0l, nI_1, nI_pred, pk_m1, upd_s, upd_n, Nat.lt_irrefl, decide_eq_false_iff_not, decide_eq_true_eq, ite_not, ite_self, Nat.reducePow, Nat.reduceMul]
  exact hK
theorem MS_X3_bad {l : Launch} {E : zEnv} {b0 : Nat} : zMS l E b0 0 yX3_bad (ws_ yX3_bad cX3_bad 2 (some .boolean)) 0 0 (zlV E T_X3_bad) := by
  refine zM_MS (Γ := G_X3_bad) rfl zΓok_nil (fun as s K h => ?_) ?_
  · have h1 := zf1_a as s K h
    exact ⟨by rw [h1.1]; decide, h1.2⟩
  · intro b as s K hT S hm hc
    have h0 := hT
    unfold T_X3_bad zf1 at h0
    split at h0
    · exact B_X3_bad b _ s K hT S hm hc
    · exact h0.elim
theorem IM_X3_bad {l : Launch} {E : zEnv} {b0 d0 : Nat} (hd : 0 + 1 ≤ d0) : zΓokq l E b0 d0 (218, true, 1, T_X3_bad) := ⟨zf1_m, (fun _ => zInv.V MS_X3_bad hd (by decide) (lw_V q1592 q1594 qs75 q158 q1595) (by decide +kernel) rfl rfl), fun h => nomatch h⟩
def T_X3_lay : zT zM := zf2 (fun _ _ s => ∃ k : Nat, s.1 14 = nI k ∧ k < 410) (fun _ _ _ => none) (fun x v s => ylayS s x v)
abbrev G_X3_lay : zΓ zM := []
theorem Z_X3_lay_0 {σ : Type} {ret : Option FieldType} {hp : Instr → List Value → σ → (List Value → σ → Prop) → Prop} {K : Option Value → σ → Prop} {S : Nat → zL → List Value → σ → Prop} {L : zL} {s : σ} {st : List Value} : zone ret hp K cX3_lay S 0 L st s = (zlda L 0 fun v => S 1 L (v :: st) s) := zone_of dX3_lay_0 rfl
theorem Z_X3_lay_1 {σ : Type} {ret : Option FieldType} {hp : Instr → List Value → σ → (List Value → σ → Prop) → Prop} {K : Option Value → σ → Prop} {S : Nat → zL → List Value → σ → Prop} {L : zL} {s : σ} {st : List Value} : zone ret hp K cX3_lay S 1 L st s = (hp (.getfield 25) st s (fun st' s' => S 4 L st' s')) := zone_of dX3_lay_1 rfl
theorem Z_X3_lay_4 {σ : Type} {ret : Option FieldType} {hp : Instr → List Value → σ → (List Value → σ → Prop) → Prop} {K : Option Value → σ → Prop} {S : Nat → zL → List Value → σ → Prop} {L : zL} {s : σ} {st : List Value} : zone ret hp K cX3_lay S 4 L st s = (S 5 L (.int 2 :: st) s) := zone_iconst dX3_lay_4 (by decide)
theorem Z_X3_lay_5 {σ : Type} {ret : Option FieldType} {hp : Instr → List Value → σ → (List Value → σ → Prop) → Prop} {K : Option Value → σ → Prop} {S : Nat → zL → List Value → σ → Prop} {L : zL} {s : σ} {st : List Value} : zone ret hp K cX3_lay S 5 L st s = (zlda L 0 fun v => S 6 L (v :: st) s) := zone_of dX3_lay_5 rfl
theorem Z_X3_lay_6 {σ : Type} {ret : Option FieldType} {hp : Instr → List Value → σ → (List Value → σ → Prop) → Prop} {K : Option Value → σ → Prop} {S : Nat → zL → List Value → σ → Prop} {L : zL} {s : σ} {st : List Value} : zone ret hp K cX3_lay S 6 L st s = (hp (.getfield 224) st s (fun st' s' => S 9 L st' s')) := zone_of dX3_lay_6 rfl
theorem Z_X3_lay_9 {σ : Type} {ret : Option FieldType} {hp : Instr → List Value → σ → (List Value → σ → Prop) → Prop} {K : Option Value → σ → Prop} {S : Nat → zL → List Value → σ → Prop} {L : zL} {s : σ} {st : List Value} : zone ret hp K cX3_lay S 9 L st s = (zb2 st fun x y r => S 10 L (.int (x * y) :: r) s) := zone_of dX3_lay_9 rfl
theorem Z_X3_lay_10 {σ : Type} {ret : Option FieldType} {hp : Instr → List Value → σ → (List Value → σ → Prop) → Prop} {K : Option Value → σ → Prop} {S : Nat → zL → List Value → σ → Prop} {L : zL} {s : σ} {st : List Value} : zone ret hp K cX3_lay S 10 L st s = (zldi L 1 fun v => S 11 L (v :: st) s) := zone_of dX3_lay_10 rfl
theorem Z_X3_lay_11 {σ : Type} {ret : Option FieldType} {hp : Instr → List Value → σ → (List Value → σ → Prop) → Prop} {K : Option Value → σ → Prop} {S : Nat → zL → List Value → σ → Prop} {L : zL} {s : σ} {st : List Value} : zone ret hp K cX3_lay S 11 L st s = (hp (.iastore) st s (fun st' s' => S 12 L st' s')) := zone_of dX3_lay_11 rfl
theorem Z_X3_lay_12 {σ : Type} {ret : Option FieldType} {hp : Instr → List Value → σ → (List Value → σ → Prop) → Prop} {K : Option Value → σ → Prop} {S : Nat → zL → List Value → σ → Prop} {L : zL} {s : σ} {st : List Value} : zone ret hp K cX3_lay S 12 L st s = (zlda L 0 fun v => S 13 L (v :: st) s) := zone_of dX3_lay_12 rfl
theorem Z_X3_lay_13 {σ : Type} {ret : Option FieldType} {hp : Instr → List Value → σ → (List Value → σ → Prop) → Prop} {K : Option Value → σ → Prop} {S : Nat → zL → List Value → σ → Prop} {L : zL} {s : σ} {st : List Value} : zone ret hp K cX3_lay S 13 L st s = (hp (.getfield 25) st s (fun st' s' => S 16 L st' s')) := zone_of dX3_lay_13 rfl
theorem Z_X3_lay_16 {σ : Type} {ret : Option FieldType} {hp : Instr → List Value → σ → (List Value → σ → Prop) → Prop} {K : Option Value → σ → Prop} {S : Nat → zL → List Value → σ → Prop} {L : zL} {s : σ} {st : List Value} : zone ret hp K cX3_lay S 16 L st s = (S 17 L (.int 2 :: st) s) := zone_iconst dX3_lay_16 (by decide)
theorem Z_X3_lay_17 {σ : Type} {ret : Option FieldType} {hp : Instr → List Value → σ → (List Value → σ → Prop) → Prop} {K : Option Value → σ → Prop} {S : Nat → zL → List Value → σ → Prop} {L : zL} {s : σ} {st : List Value} : zone ret hp K cX3_lay S 17 L st s = (zlda L 0 fun v => S 18 L (v :: st) s) := zone_of dX3_lay_17 rfl
theorem Z_X3_lay_18 {σ : Type} {ret : Option FieldType} {hp : Instr → List Value → σ → (List Value → σ → Prop) → Prop} {K : Option Value → σ → Prop} {S : Nat → zL → List Value → σ → Prop} {L : zL} {s : σ} {st : List Value} : zone ret hp K cX3_lay S 18 L st s = (hp (.getfield 224) st s (fun st' s' => S 21 L st' s')) := zone_of dX3_lay_18 rfl
theorem Z_X3_lay_21 {σ : Type} {ret : Option FieldType} {hp : Instr → List Value → σ → (List Value → σ → Prop) → Prop} {K : Option Value → σ → Prop} {S : Nat → zL → List Value → σ → Prop} {L : zL} {s : σ} {st : List Value} : zone ret hp K cX3_lay S 21 L st s = (zb2 st fun x y r => S 22 L (.int (x * y) :: r) s) := zone_of dX3_lay_21 rfl
theorem Z_X3_lay_22 {σ : Type} {ret : Option FieldType} {hp : Instr → List Value → σ → (List Value → σ → Prop) → Prop} {K : Option Value → σ → Prop} {S : Nat → zL → List Value → σ → Prop} {L : zL} {s : σ} {st : List Value} : zone ret hp K cX3_lay S 22 L st s = (S 23 L (.int 1 :: st) s) := zone_iconst dX3_lay_22 (by decide)
theorem Z_X3_lay_23 {σ : Type} {ret : Option FieldType} {hp : Instr → List Value → σ → (List Value → σ → Prop) → Prop} {K : Option Value → σ → Prop} {S : Nat → zL → List Value → σ → Prop} {L : zL} {s : σ} {st : List Value} : zone ret hp K cX3_lay S 23 L st s = (zb2 st fun x y r => S 24 L (.int (x + y) :: r) s) := zone_of dX3_lay_23 rfl
theorem Z_X3_lay_24 {σ : Type} {ret : Option FieldType} {hp : Instr → List Value → σ → (List Value → σ → Prop) → Prop} {K : Option Value → σ → Prop} {S : Nat → zL → List Value → σ → Prop} {L : zL} {s : σ} {st : List Value} : zone ret hp K cX3_lay S 24 L st s = (zldi L 2 fun v => S 25 L (v :: st) s) := zone_of dX3_lay_24 rfl
theorem Z_X3_lay_25 {σ : Type} {ret : Option FieldType} {hp : Instr → List Value → σ → (List Value → σ → Prop) → Prop} {K : Option Value → σ → Prop} {S : Nat → zL → List Value → σ → Prop} {L : zL} {s : σ} {st : List Value} : zone ret hp K cX3_lay S 25 L st s = (hp (.iastore) st s (fun st' s' => S 26 L st' s')) := zone_of dX3_lay_25 rfl
theorem Z_X3_lay_26 {σ : Type} {ret : Option FieldType} {hp : Instr → List Value → σ → (List Value → σ → Prop) → Prop} {K : Option Value → σ → Prop} {S : Nat → zL → List Value → σ → Prop} {L : zL} {s : σ} {st : List Value} : zone ret hp K cX3_lay S 26 L st s = (zlda L 0 fun v => S 27 L (v :: st) s) := zone_of dX3_lay_26 rfl
theorem Z_X3_lay_27 {σ : Type} {ret : Option FieldType} {hp : Instr → List Value → σ → (List Value → σ → Prop) → Prop} {K : Option Value → σ → Prop} {S : Nat → zL → List Value → σ → Prop} {L : zL} {s : σ} {r : List Value} {x : Value} : zone ret hp K cX3_lay S 27 L (x :: r) s = (x.category = 1 ∧ S 28 L (x :: x :: r) s) := zone_of dX3_lay_27 rfl
theorem Z_X3_lay_28 {σ : Type} {ret : Option FieldType} {hp : Instr → List Value → σ → (List Value → σ → Prop) → Prop} {K : Option Value → σ → Prop} {S : Nat → zL → List Value → σ → Prop} {L : zL} {s : σ} {st : List Value} : zone ret hp K cX3_lay S 28 L st s = (hp (.getfield 224) st s (fun st' s' => S 31 L st' s')) := zone_of dX3_lay_28 rfl
theorem Z_X3_lay_31 {σ : Type} {ret : Option FieldType} {hp : Instr → List Value → σ → (List Value → σ → Prop) → Prop} {K : Option Value → σ → Prop} {S : Nat → zL → List Value → σ → Prop} {L : zL} {s : σ} {st : List Value} : zone ret hp K cX3_lay S 31 L st s = (S 32 L (.int 1 :: st) s) := zone_iconst dX3_lay_31 (by decide)
theorem Z_X3_lay_32 {σ : Type} {ret : Option FieldType} {hp : Instr → List Value → σ → (List Value → σ → Prop) → Prop} {K : Option Value → σ → Prop} {S : Nat → zL → List Value → σ → Prop} {L : zL} {s : σ} {st : List Value} : zone ret hp K cX3_lay S 32 L st s = (zb2 st fun x y r => S 33 L (.int (x + y) :: r) s) := zone_of dX3_lay_32 rfl
theorem Z_X3_lay_33 {σ : Type} {ret : Option FieldType} {hp : Instr → List Value → σ → (List Value → σ → Prop) → Prop} {K : Option Value → σ → Prop} {S : Nat → zL → List Value → σ → Prop} {L : zL} {s : σ} {st : List Value} : zone ret hp K cX3_lay S 33 L st s = (hp (.putfield 224) st s (fun st' s' => S 36 L st' s')) := zone_of dX3_lay_33 rfl
theorem Z_X3_lay_36 {σ : Type} {ret : Option FieldType} {hp : Instr → List Value → σ → (List Value → σ → Prop) → Prop} {K : Option Value → σ → Prop} {S : Nat → zL → List Value → σ → Prop} {L : zL} {s : σ} : zone ret hp K cX3_lay S 36 L [] s = (ret = none ∧ K none s) := zone_of dX3_lay_36 rfl
theorem TE_X3_lay {x v : Int32} {s : zM} {K : Option Value → zM → Prop} : T_X3_lay [.int x, .int v] s K = ((fun _ _ s => ∃ k : Nat, s.1 14 = nI k ∧ k < 410) x v s ∧ K ((fun _ _ _ => none) x v s) ((fun x v s => ylayS s x v) x v s)) := rfl
set_option maxRecDepth 100000 in
set_option maxHeartbeats 4000000 in
theorem B_X3_lay {E : zEnv} (b : Nat) (x v : Int32) (s : zM) (K : Option Value → zM → Prop) (hT : T_X3_lay [.int x, .int v] s K) (S : Nat → zL → List Value → zM → Prop) (hm : zMono (zMhp E b G_X3_lay)) (hc : zClosed none (zMhp E b G_X3_lay) K cX3_lay S) : S 0 [some (.ref b), some (.int x), some (.int v)] [] s := by
  obtain ⟨⟨k, e, hk⟩, hK⟩ := hT
  dsimp only at hK
  unfold ylayS at hK
  rw [e, nI_clamp (by omega)] at hK
  have h1 : vp_in (nI (2 * k)) 820 := vp_in_nI (by omega) (by decide)
  have h2 : vp_in (nI (2 * k + 1)) 820 := vp_in_nI (by omega) (by decide)
  refine zgo hm hc (fun _ => false) 60 ?_
  simp (config := {decide := true, maxSteps := 1000000}) (disch := first | rfl | decide | omega) only [↓Z_X3_lay_0, ↓Z_X3_lay_1, ↓Z_X3_lay_4, ↓Z_X3_lay_5, ↓Z_X3_lay_6, ↓Z_X3_lay_9, ↓Z_X3_lay_10, ↓Z_X3_lay_11, ↓Z_X3_lay_12, ↓Z_X3_lay_13, ↓Z_X3_lay_16, ↓Z_X3_lay_17, ↓Z_X3_lay_18, ↓Z_X3_lay_21, ↓Z_X3_lay_22, ↓Z_X3_lay_23, ↓Z_X3_lay_24, ↓Z_X3_lay_25, ↓Z_X3_lay_26, ↓Z_X3_lay_27, ↓Z_X3_lay_28, ↓Z_X3_lay_31, ↓Z_X3_lay_32, ↓Z_X3_lay_33, ↓Z_X3_lay_36, ↓reduceIte, ↓zrun_stop, ↓zrun_step, ↓zb2_i, ↓zb1_i, ↓zldi_0, ↓zldi_s, ↓zlda_0, ↓zlda_n, ↓zlda_s, ↓zsc_0, ↓zsc_s, ↓zsti_c, ↓zsta_r, ↓zsta_n, ↓zic_0, ↓zic_s, ↓zpush_s, ↓zpush_n, ↓zfew_0, ↓zfew_i, ↓zfew_r, ↓zfew_n, ↓zMg'_224, ↓zMg'_25, ↓zMp'_224, ↓zMs_1, ↓zMs_10, ↓zMs_11, ↓zMs_12, ↓zMs_13, ↓zMs_14, ↓zMs_15, ↓zMs_16, ↓zMs_17, ↓zMs_18, ↓zMs_2, ↓zMs_3, ↓zMs_4, ↓zMs_5, ↓zMs_6, ↓zMs_7, ↓zMs_8, ↓zMs_9, zcat_int, zcat_ref, zcat_null, zret_int, zret_b0, zret_b1, zret_b, Nat.reduceAdd, Nat.reduceSub, Nat.reduceLT, Nat.reduceEqDiff, Nat.reduceBEq, Nat.reduceBNe, true_and, and_true, if_true, if_false, Bool.false_eq_true, Bool.true_eq_false, Bool.or_self, Bool.or_false, Bool.or_true, Bool.false_or, Bool.true_or, zbi_e0, zbi_e1, eq_self, reduceCtorEq, Fin.isValue, zent, List.map_cons, List.map_nil, List.length_cons, List.length_nil, List.replicate, List.cons_append, List.nil_append, List.append_nil, Nat.zero_add, Nat.add_zero, zF_1, zF_2, zA_1, zA_2s, zA_2n, zB_1, zB_2s, zB_2n, not_true_eq_false, not_false_eq_true, Int32.reduceLT, Int32.reduceAdd, Int32.reduceSub, Int32.reduceMul, ne_eq, Int32.reduceToNatClampNeg, zlit_vp, nI_al, nI_la, nI_lm, nI_ml, nI_ltl, nI_llt, nI_eql, nI_lt2, nI_eq2, nI_vp, nI_cl, nI_add, pk_mul, nI_divl, nI_sub2, nI_lsub, nI_ne0l, nI_1, nI_pred, pk_m1, upd_s, upd_n, Nat.lt_irrefl, decide_eq_false_iff_not, decide_eq_true_eq, ite_not, ite_self, Nat.reducePow, Nat.reduceMul, e, h1, h2, nI_cl]
  rw [zA_B, zA_B, zB_2s, zB_B]
  exact hK
theorem MS_X3_lay {l : Launch} {E : zEnv} {b0 : Nat} : zMS l E b0 0 yX3_lay (ws_ yX3_lay cX3_lay 3 none) 0 0 (zlV E T_X3_lay) := by
  refine zM_MS (Γ := G_X3_lay) rfl zΓok_nil (fun as s K h => ?_) ?_
  · have h1 := zf2_a as s K h
    exact ⟨by rw [h1.1]; decide, h1.2⟩
  · intro b as s K hT S hm hc
    have h0 := hT
    unfold T_X3_lay zf2 at h0
    split at h0
    · exact B_X3_lay b _ _ s K hT S hm hc
    · exact h0.elim
theorem IM_X3_lay {l : Launch} {E : zEnv} {b0 d0 : Nat} (hd : 0 + 1 ≤ d0) : zΓokq l E b0 d0 (234, true, 2, T_X3_lay) := ⟨zf2_m, (fun _ => zInv.V MS_X3_lay hd (by decide) (lw_V q1608 q1610 qs79 q158 q1611) (by decide +kernel) rfl rfl), fun h => nomatch h⟩
def T_X3_need : zT zM := zx1 (fun _ s => ypar s) (fun t s => some (.int (zbi (decide (s.1 18 = t))))) (fun t s u => if s.1 18 = t then ynx s u else u = zF (zF s 21 1) 22 (s.1 19))
abbrev G_X3_need : zΓ zM := [(218, true, 1, T_X3_bad), (221, true, 0, T_X3_next0)]
theorem Z_X3_need_0 {σ : Type} {ret : Option FieldType} {hp : Instr → List Value → σ → (List Value → σ → Prop) → Prop} {K : Option Value → σ → Prop} {S : Nat → zL → List Value → σ → Prop} {L : zL} {s : σ} {st : List Value} : zone ret hp K cX3_need S 0 L st s = (zlda L 0 fun v => S 1 L (v :: st) s) := zone_of dX3_need_0 rfl
theorem Z_X3_need_1 {σ : Type} {ret : Option FieldType} {hp : Instr → List Value → σ → (List Value → σ → Prop) → Prop} {K : Option Value → σ → Prop} {S : Nat → zL → List Value → σ → Prop} {L : zL} {s : σ} {st : List Value} : zone ret hp K cX3_need S 1 L st s = (hp (.getfield 197) st s (fun st' s' => S 4 L st' s')) := zone_of dX3_need_1 rfl
theorem Z_X3_need_4 {σ : Type} {ret : Option FieldType} {hp : Instr → List Value → σ → (List Value → σ → Prop) → Prop} {K : Option Value → σ → Prop} {S : Nat → zL → List Value → σ → Prop} {L : zL} {s : σ} {st : List Value} : zone ret hp K cX3_need S 4 L st s = (zldi L 1 fun v => S 5 L (v :: st) s) := zone_of dX3_need_4 rfl
theorem Z_X3_need_5 {σ : Type} {ret : Option FieldType} {hp : Instr → List Value → σ → (List Value → σ → Prop) → Prop} {K : Option Value → σ → Prop} {S : Nat → zL → List Value → σ → Prop} {L : zL} {s : σ} {st : List Value} : zone ret hp K cX3_need S 5 L st s = (zb2 st fun x y r => if x = y then S 14 L r s else S 8 L r s) := zone_ic_eq dX3_need_5 (by decide)
theorem Z_X3_need_8 {σ : Type} {ret : Option FieldType} {hp : Instr → List Value → σ → (List Value → σ → Prop) → Prop} {K : Option Value → σ → Prop} {S : Nat → zL → List Value → σ → Prop} {L : zL} {s : σ} {st : List Value} : zone ret hp K cX3_need S 8 L st s = (zlda L 0 fun v => S 9 L (v :: st) s) := zone_of dX3_need_8 rfl
theorem Z_X3_need_9 {σ : Type} {ret : Option FieldType} {hp : Instr → List Value → σ → (List Value → σ → Prop) → Prop} {K : Option Value → σ → Prop} {S : Nat → zL → List Value → σ → Prop} {L : zL} {s : σ} {st : List Value} : zone ret hp K cX3_need S 9 L st s = (S 10 L (.int 1 :: st) s) := zone_iconst dX3_need_9 (by decide)
theorem Z_X3_need_10 {σ : Type} {ret : Option FieldType} {hp : Instr → List Value → σ → (List Value → σ → Prop) → Prop} {K : Option Value → σ → Prop} {S : Nat → zL → List Value → σ → Prop} {L : zL} {s : σ} {st : List Value} : zone ret hp K cX3_need S 10 L st s = (hp (.invokevirtual 218) st s (fun st' s' => S 13 L st' s')) := zone_of dX3_need_10 rfl
theorem Z_X3_need_13 {σ : Type} {ret : Option FieldType} {hp : Instr → List Value → σ → (List Value → σ → Prop) → Prop} {K : Option Value → σ → Prop} {S : Nat → zL → List Value → σ → Prop} {L : zL} {s : σ} {v : Int32} : zone ret hp K cX3_need S 13 L [.int v] s = (zretI ret v ∧ K (some (.int v)) s) := zone_of dX3_need_13 rfl
theorem Z_X3_need_14 {σ : Type} {ret : Option FieldType} {hp : Instr → List Value → σ → (List Value → σ → Prop) → Prop} {K : Option Value → σ → Prop} {S : Nat → zL → List Value → σ → Prop} {L : zL} {s : σ} {st : List Value} : zone ret hp K cX3_need S 14 L st s = (zlda L 0 fun v => S 15 L (v :: st) s) := zone_of dX3_need_14 rfl
theorem Z_X3_need_15 {σ : Type} {ret : Option FieldType} {hp : Instr → List Value → σ → (List Value → σ → Prop) → Prop} {K : Option Value → σ → Prop} {S : Nat → zL → List Value → σ → Prop} {L : zL} {s : σ} {st : List Value} : zone ret hp K cX3_need S 15 L st s = (hp (.invokevirtual 221) st s (fun st' s' => S 18 L st' s')) := zone_of dX3_need_15 rfl
theorem Z_X3_need_18 {σ : Type} {ret : Option FieldType} {hp : Instr → List Value → σ → (List Value → σ → Prop) → Prop} {K : Option Value → σ → Prop} {S : Nat → zL → List Value → σ → Prop} {L : zL} {s : σ} {st : List Value} : zone ret hp K cX3_need S 18 L st s = (S 19 L (.int 1 :: st) s) := zone_iconst dX3_need_18 (by decide)
theorem Z_X3_need_19 {σ : Type} {ret : Option FieldType} {hp : Instr → List Value → σ → (List Value → σ → Prop) → Prop} {K : Option Value → σ → Prop} {S : Nat → zL → List Value → σ → Prop} {L : zL} {s : σ} {v : Int32} : zone ret hp K cX3_need S 19 L [.int v] s = (zretI ret v ∧ K (some (.int v)) s) := zone_of dX3_need_19 rfl
theorem CC_X3_need_218 {b : Nat} {a0 : Value} {r : List Value} {s : zM} {k : List Value → zM → Prop} : zcallV b G_X3_need 218 (a0 :: .ref b :: r) s k = (zfew r 8 = true ∧ T_X3_bad [a0] s (fun v s' => zpush v r (fun q => k q s'))) := zcV_n rfl rfl
theorem CC_X3_need_221 {b : Nat} {r : List Value} {s : zM} {k : List Value → zM → Prop} : zcallV b G_X3_need 221 (.ref b :: r) s k = (zfew r 8 = true ∧ T_X3_next0 [] s (fun v s' => zpush v r (fun q => k q s'))) := zcV_n rfl rfl
theorem TE_X3_need {t : Int32} {s : zM} {K : Option Value → zM → Prop} : T_X3_need [.int t] s K = ((fun _ s => ypar s) t s ∧ ∀ u9 : zM, (fun t s u => if s.1 18 = t then ynx s u else u = zF (zF s 21 1) 22 (s.1 19)) t s u9 → K ((fun t s => some (.int (zbi (decide (s.1 18 = t))))) t s) u9) := rfl
set_option maxRecDepth 100000 in
set_option maxHeartbeats 4000000 in
theorem B_X3_need {E : zEnv} (b : Nat) (t : Int32) (s : zM) (K : Option Value → zM → Prop) (hT : T_X3_need [.int t] s K) (S : Nat → zL → List Value → zM → Prop) (hm : zMono (zMhp E b G_X3_need)) (hc : zClosed (some .boolean) (zMhp E b G_X3_need) K cX3_need S) : S 0 [some (.ref b), some (.int t)] [] s := by
  obtain ⟨hP, hK⟩ := hT
  dsimp only at hP hK
  by_cases c : s.1 18 = t
  · simp only [c, decide_true, if_true, zbi_t] at hK
    have hn0 := ypar_n0 hP
    refine zgo hm hc (fun _ => false) 60 ?_
    simp (config := {decide := true, maxSteps := 1000000}) (disch := first | rfl | decide | omega) only [↓Z_X3_need_0, ↓Z_X3_need_1, ↓Z_X3_need_4, ↓Z_X3_need_5, ↓Z_X3_need_8, ↓Z_X3_need_9, ↓Z_X3_need_10, ↓Z_X3_need_13, ↓Z_X3_need_14, ↓Z_X3_need_15, ↓Z_X3_need_18, ↓Z_X3_need_19, ↓reduceIte, ↓zrun_stop, ↓zrun_step, ↓zb2_i, ↓zb1_i, ↓zldi_0, ↓zldi_s, ↓zlda_0, ↓zlda_n, ↓zlda_s, ↓zsc_0, ↓zsc_s, ↓zsti_c, ↓zsta_r, ↓zsta_n, ↓zic_0, ↓zic_s, ↓zpush_s, ↓zpush_n, ↓zfew_0, ↓zfew_i, ↓zfew_r, ↓zfew_n, ↓zMg'_197, ↓zMhp_iV, ↓CC_X3_need_218, ↓CC_X3_need_221, ↓TE_X3_bad, ↓TE_X3_next0, zcat_int, zcat_ref, zcat_null, zret_int, zret_b0, zret_b1, zret_b, Nat.reduceAdd, Nat.reduceSub, Nat.reduceLT, Nat.reduceEqDiff, Nat.reduceBEq, Nat.reduceBNe, true_and, and_true, if_true, if_false, Bool.false_eq_true, Bool.true_eq_false, Bool.or_self, Bool.or_false, Bool.or_true, Bool.false_or, Bool.true_or, zbi_e0, zbi_e1, eq_self, reduceCtorEq, Fin.isValue, zent, List.map_cons, List.map_nil, List.length_cons, List.length_nil, List.replicate, List.cons_append, List.nil_append, List.append_nil, Nat.zero_add, Nat.add_zero, zF_1, zF_2, zA_1, zA_2s, zA_2n, zB_1, zB_2s, zB_2n, not_true_eq_false, not_false_eq_true, Int32.reduceLT, Int32.reduceAdd, Int32.reduceSub, Int32.reduceMul, ne_eq, Int32.reduceToNatClampNeg, zlit_vp, nI_al, nI_la, nI_lm, nI_ml, nI_ltl, nI_llt, nI_eql, nI_lt2, nI_eq2, nI_vp, nI_cl, nI_add, pk_mul, nI_divl, nI_sub2, nI_lsub, nI_ne0l, nI_1, nI_pred, pk_m1, upd_s, upd_n, Nat.lt_irrefl, decide_eq_false_iff_not, decide_eq_true_eq, ite_not, ite_self, Nat.reducePow, Nat.reduceMul, c, hn0]
    rintro u ⟨h1, h2, h3⟩
    exact hK u (ynx_of (p := 0) hP h1 h2 h3)
  · simp only [c, decide_false, if_false, zbi_f] at hK
    refine zgo hm hc (fun _ => false) 60 ?_
    simp (config := {decide := true, maxSteps := 1000000}) (disch := first | rfl | decide | omega) only [↓Z_X3_need_0, ↓Z_X3_need_1, ↓Z_X3_need_4, ↓Z_X3_need_5, ↓Z_X3_need_8, ↓Z_X3_need_9, ↓Z_X3_need_10, ↓Z_X3_need_13, ↓Z_X3_need_14, ↓Z_X3_need_15, ↓Z_X3_need_18, ↓Z_X3_need_19, ↓reduceIte, ↓zrun_stop, ↓zrun_step, ↓zb2_i, ↓zb1_i, ↓zldi_0, ↓zldi_s, ↓zlda_0, ↓zlda_n, ↓zlda_s, ↓zsc_0, ↓zsc_s, ↓zsti_c, ↓zsta_r, ↓zsta_n, ↓zic_0, ↓zic_s, ↓zpush_s, ↓zpush_n, ↓zfew_0, ↓zfew_i, ↓zfew_r, ↓zfew_n, ↓zMg'_197, ↓zMhp_iV, ↓CC_X3_need_218, ↓CC_X3_need_221, ↓TE_X3_bad, ↓TE_X3_next0, zcat_int, zcat_ref, zcat_null, zret_int, zret_b0, zret_b1, zret_b, Nat.reduceAdd, Nat.reduceSub, Nat.reduceLT, Nat.reduceEqDiff, Nat.reduceBEq, Nat.reduceBNe, true_and, and_true, if_true, if_false, Bool.false_eq_true, Bool.true_eq_false, Bool.or_self, Bool.or_false, Bool.or_true, Bool.false_or, Bool.true_or, zbi_e0, zbi_e1, eq_self, reduceCtorEq, Fin.isValue, zent, List.map_cons, List.map_nil, List.length_cons, List.length_nil, List.replicate, List.cons_append, List.nil_append, List.append_nil, Nat.zero_add, Nat.add_zero, zF_1, zF_2, zA_1, zA_2s, zA_2n, zB_1, zB_2s, zB_2n, not_true_eq_false, not_false_eq_true, Int32.reduceLT, Int32.reduceAdd, Int32.reduceSub, Int32.reduceMul, ne_eq, Int32.reduceToNatClampNeg, zlit_vp, nI_al, nI_la, nI_lm, nI_ml, nI_ltl, nI_llt, nI_eql, nI_lt2, nI_eq2, nI_vp, nI_cl, nI_add, pk_mul, nI_divl, nI_sub2, nI_lsub, nI_ne0l, nI_1, nI_pred, pk_m1, upd_s, upd_n, Nat.lt_irrefl, decide_eq_false_iff_not, decide_eq_true_eq, ite_not, ite_self, Nat.reducePow, Nat.reduceMul, c]
    exact hK _ rfl
theorem MS_X3_need {l : Launch} {E : zEnv} {b0 : Nat} : zMS l E b0 9 yX3_need (ws_ yX3_need cX3_need 2 (some .boolean)) 0 0 (zlV E T_X3_need) := by
  refine zM_MS (Γ := G_X3_need) rfl (zΓok_cons (IM_X3_bad (by decide)) (zΓok_cons (IM_X3_next0 (by decide)) zΓok_nil)) (fun as s K h => ?_) ?_
  · have h1 := zx1_a as s K h
    exact ⟨by rw [h1.1]; decide, h1.2⟩
  · intro b as s K hT S hm hc
    have h0 := hT
    unfold T_X3_need zx1 at h0
    split at h0
    · exact B_X3_need b _ s K hT S hm hc
    · exact h0.elim
theorem IM_X3_need {l : Launch} {E : zEnv} {b0 d0 : Nat} (hd : 9 + 1 ≤ d0) : zΓokq l E b0 d0 (253, true, 1, T_X3_need) := ⟨zx1_m, (fun _ => zInv.V MS_X3_need hd (by decide) (lw_V q1628 q1630 qs84 q158 q1631) (by decide +kernel) rfl rfl), fun h => nomatch h⟩
def T_X3_opens : zT zM := zx0 (fun s => ypar s) (fun s => some (.int (zbi (!decide (s.1 24 = 8))))) (fun s u => if s.1 24 = 8 then u = zF (zF s 21 3) 22 (s.1 19) else ynx (zF s 24 (s.1 24 + 1)) u)
abbrev G_X3_opens : zΓ zM := [(218, true, 1, T_X3_bad), (221, true, 0, T_X3_next0)]
theorem Z_X3_opens_0 {σ : Type} {ret : Option FieldType} {hp : Instr → List Value → σ → (List Value → σ → Prop) → Prop} {K : Option Value → σ → Prop} {S : Nat → zL → List Value → σ → Prop} {L : zL} {s : σ} {st : List Value} : zone ret hp K cX3_opens S 0 L st s = (zlda L 0 fun v => S 1 L (v :: st) s) := zone_of dX3_opens_0 rfl
theorem Z_X3_opens_1 {σ : Type} {ret : Option FieldType} {hp : Instr → List Value → σ → (List Value → σ → Prop) → Prop} {K : Option Value → σ → Prop} {S : Nat → zL → List Value → σ → Prop} {L : zL} {s : σ} {st : List Value} : zone ret hp K cX3_opens S 1 L st s = (hp (.getfield 227) st s (fun st' s' => S 4 L st' s')) := zone_of dX3_opens_1 rfl
theorem Z_X3_opens_4 {σ : Type} {ret : Option FieldType} {hp : Instr → List Value → σ → (List Value → σ → Prop) → Prop} {K : Option Value → σ → Prop} {S : Nat → zL → List Value → σ → Prop} {L : zL} {s : σ} {st : List Value} : zone ret hp K cX3_opens S 4 L st s = (S 6 L (.int 8 :: st) s) := zone_bipush dX3_opens_4 (by decide)
theorem Z_X3_opens_6 {σ : Type} {ret : Option FieldType} {hp : Instr → List Value → σ → (List Value → σ → Prop) → Prop} {K : Option Value → σ → Prop} {S : Nat → zL → List Value → σ → Prop} {L : zL} {s : σ} {st : List Value} : zone ret hp K cX3_opens S 6 L st s = (zb2 st fun x y r => if x = y then S 9 L r s else S 15 L r s) := zone_ic_ne dX3_opens_6 (by decide)
theorem Z_X3_opens_9 {σ : Type} {ret : Option FieldType} {hp : Instr → List Value → σ → (List Value → σ → Prop) → Prop} {K : Option Value → σ → Prop} {S : Nat → zL → List Value → σ → Prop} {L : zL} {s : σ} {st : List Value} : zone ret hp K cX3_opens S 9 L st s = (zlda L 0 fun v => S 10 L (v :: st) s) := zone_of dX3_opens_9 rfl
theorem Z_X3_opens_10 {σ : Type} {ret : Option FieldType} {hp : Instr → List Value → σ → (List Value → σ → Prop) → Prop} {K : Option Value → σ → Prop} {S : Nat → zL → List Value → σ → Prop} {L : zL} {s : σ} {st : List Value} : zone ret hp K cX3_opens S 10 L st s = (S 11 L (.int 3 :: st) s) := zone_iconst dX3_opens_10 (by decide)
theorem Z_X3_opens_11 {σ : Type} {ret : Option FieldType} {hp : Instr → List Value → σ → (List Value → σ → Prop) → Prop} {K : Option Value → σ → Prop} {S : Nat → zL → List Value → σ → Prop} {L : zL} {s : σ} {st : List Value} : zone ret hp K cX3_opens S 11 L st s = (hp (.invokevirtual 218) st s (fun st' s' => S 14 L st' s')) := zone_of dX3_opens_11 rfl
theorem Z_X3_opens_14 {σ : Type} {ret : Option FieldType} {hp : Instr → List Value → σ → (List Value → σ → Prop) → Prop} {K : Option Value → σ → Prop} {S : Nat → zL → List Value → σ → Prop} {L : zL} {s : σ} {v : Int32} : zone ret hp K cX3_opens S 14 L [.int v] s = (zretI ret v ∧ K (some (.int v)) s) := zone_of dX3_opens_14 rfl
theorem Z_X3_opens_15 {σ : Type} {ret : Option FieldType} {hp : Instr → List Value → σ → (List Value → σ → Prop) → Prop} {K : Option Value → σ → Prop} {S : Nat → zL → List Value → σ → Prop} {L : zL} {s : σ} {st : List Value} : zone ret hp K cX3_opens S 15 L st s = (zlda L 0 fun v => S 16 L (v :: st) s) := zone_of dX3_opens_15 rfl
theorem Z_X3_opens_16 {σ : Type} {ret : Option FieldType} {hp : Instr → List Value → σ → (List Value → σ → Prop) → Prop} {K : Option Value → σ → Prop} {S : Nat → zL → List Value → σ → Prop} {L : zL} {s : σ} {r : List Value} {x : Value} : zone ret hp K cX3_opens S 16 L (x :: r) s = (x.category = 1 ∧ S 17 L (x :: x :: r) s) := zone_of dX3_opens_16 rfl
theorem Z_X3_opens_17 {σ : Type} {ret : Option FieldType} {hp : Instr → List Value → σ → (List Value → σ → Prop) → Prop} {K : Option Value → σ → Prop} {S : Nat → zL → List Value → σ → Prop} {L : zL} {s : σ} {st : List Value} : zone ret hp K cX3_opens S 17 L st s = (hp (.getfield 227) st s (fun st' s' => S 20 L st' s')) := zone_of dX3_opens_17 rfl
theorem Z_X3_opens_20 {σ : Type} {ret : Option FieldType} {hp : Instr → List Value → σ → (List Value → σ → Prop) → Prop} {K : Option Value → σ → Prop} {S : Nat → zL → List Value → σ → Prop} {L : zL} {s : σ} {st : List Value} : zone ret hp K cX3_opens S 20 L st s = (S 21 L (.int 1 :: st) s) := zone_iconst dX3_opens_20 (by decide)
theorem Z_X3_opens_21 {σ : Type} {ret : Option FieldType} {hp : Instr → List Value → σ → (List Value → σ → Prop) → Prop} {K : Option Value → σ → Prop} {S : Nat → zL → List Value → σ → Prop} {L : zL} {s : σ} {st : List Value} : zone ret hp K cX3_opens S 21 L st s = (zb2 st fun x y r => S 22 L (.int (x + y) :: r) s) := zone_of dX3_opens_21 rfl
theorem Z_X3_opens_22 {σ : Type} {ret : Option FieldType} {hp : Instr → List Value → σ → (List Value → σ → Prop) → Prop} {K : Option Value → σ → Prop} {S : Nat → zL → List Value → σ → Prop} {L : zL} {s : σ} {st : List Value} : zone ret hp K cX3_opens S 22 L st s = (hp (.putfield 227) st s (fun st' s' => S 25 L st' s')) := zone_of dX3_opens_22 rfl
theorem Z_X3_opens_25 {σ : Type} {ret : Option FieldType} {hp : Instr → List Value → σ → (List Value → σ → Prop) → Prop} {K : Option Value → σ → Prop} {S : Nat → zL → List Value → σ → Prop} {L : zL} {s : σ} {st : List Value} : zone ret hp K cX3_opens S 25 L st s = (zlda L 0 fun v => S 26 L (v :: st) s) := zone_of dX3_opens_25 rfl
theorem Z_X3_opens_26 {σ : Type} {ret : Option FieldType} {hp : Instr → List Value → σ → (List Value → σ → Prop) → Prop} {K : Option Value → σ → Prop} {S : Nat → zL → List Value → σ → Prop} {L : zL} {s : σ} {st : List Value} : zone ret hp K cX3_opens S 26 L st s = (hp (.invokevirtual 221) st s (fun st' s' => S 29 L st' s')) := zone_of dX3_opens_26 rfl
theorem Z_X3_opens_29 {σ : Type} {ret : Option FieldType} {hp : Instr → List Value → σ → (List Value → σ → Prop) → Prop} {K : Option Value → σ → Prop} {S : Nat → zL → List Value → σ → Prop} {L : zL} {s : σ} {st : List Value} : zone ret hp K cX3_opens S 29 L st s = (S 30 L (.int 1 :: st) s) := zone_iconst dX3_opens_29 (by decide)
theorem Z_X3_opens_30 {σ : Type} {ret : Option FieldType} {hp : Instr → List Value → σ → (List Value → σ → Prop) → Prop} {K : Option Value → σ → Prop} {S : Nat → zL → List Value → σ → Prop} {L : zL} {s : σ} {v : Int32} : zone ret hp K cX3_opens S 30 L [.int v] s = (zretI ret v ∧ K (some (.int v)) s) := zone_of dX3_opens_30 rfl
theorem CC_X3_opens_218 {b : Nat} {a0 : Value} {r : List Value} {s : zM} {k : List Value → zM → Prop} : zcallV b G_X3_opens 218 (a0 :: .ref b :: r) s k = (zfew r 8 = true ∧ T_X3_bad [a0] s (fun v s' => zpush v r (fun q => k q s'))) := zcV_n rfl rfl
theorem CC_X3_opens_221 {b : Nat} {r : List Value} {s : zM} {k : List Value → zM → Prop} : zcallV b G_X3_opens 221 (.ref b :: r) s k = (zfew r 8 = true ∧ T_X3_next0 [] s (fun v s' => zpush v r (fun q => k q s'))) := zcV_n rfl rfl
theorem TE_X3_opens {s : zM} {K : Option Value → zM → Prop} : T_X3_opens [] s K = ((fun s => ypar s)  s ∧ ∀ u9 : zM, (fun s u => if s.1 24 = 8 then u = zF (zF s 21 3) 22 (s.1 19) else ynx (zF s 24 (s.1 24 + 1)) u)  s u9 → K ((fun s => some (.int (zbi (!decide (s.1 24 = 8)))))  s) u9) := rfl
set_option maxRecDepth 100000 in
set_option maxHeartbeats 4000000 in
theorem B_X3_opens {E : zEnv} (b : Nat) (s : zM) (K : Option Value → zM → Prop) (hT : T_X3_opens [] s K) (S : Nat → zL → List Value → zM → Prop) (hm : zMono (zMhp E b G_X3_opens)) (hc : zClosed (some .boolean) (zMhp E b G_X3_opens) K cX3_opens S) : S 0 [some (.ref b)] [] s := by
  obtain ⟨hP, hK⟩ := hT
  dsimp only at hP hK
  by_cases c : s.1 24 = 8
  · simp only [c, decide_true, Bool.not_true, if_true, zbi_f] at hK
    refine zgo hm hc (fun _ => false) 60 ?_
    simp (config := {decide := true, maxSteps := 1000000}) (disch := first | rfl | decide | omega) only [↓Z_X3_opens_0, ↓Z_X3_opens_1, ↓Z_X3_opens_4, ↓Z_X3_opens_6, ↓Z_X3_opens_9, ↓Z_X3_opens_10, ↓Z_X3_opens_11, ↓Z_X3_opens_14, ↓Z_X3_opens_15, ↓Z_X3_opens_16, ↓Z_X3_opens_17, ↓Z_X3_opens_20, ↓Z_X3_opens_21, ↓Z_X3_opens_22, ↓Z_X3_opens_25, ↓Z_X3_opens_26, ↓Z_X3_opens_29, ↓Z_X3_opens_30, ↓reduceIte, ↓zrun_stop, ↓zrun_step, ↓zb2_i, ↓zb1_i, ↓zldi_0, ↓zldi_s, ↓zlda_0, ↓zlda_n, ↓zlda_s, ↓zsc_0, ↓zsc_s, ↓zsti_c, ↓zsta_r, ↓zsta_n, ↓zic_0, ↓zic_s, ↓zpush_s, ↓zpush_n, ↓zfew_0, ↓zfew_i, ↓zfew_r, ↓zfew_n, ↓zMg'_227, ↓zMhp_iV, ↓zMp'_227, ↓CC_X3_opens_218, ↓CC_X3_opens_221, ↓TE_X3_bad, ↓TE_X3_next0, zcat_int, zcat_ref, zcat_null, zret_int, zret_b0, zret_b1, zret_b, Nat.reduceAdd, Nat.reduceSub, Nat.reduceLT, Nat.reduceEqDiff, Nat.reduceBEq, Nat.reduceBNe, true_and, and_true, if_true, if_false, Bool.false_eq_true, Bool.true_eq_false, Bool.or_self, Bool.or_false, Bool.or_true, Bool.false_or, Bool.true_or, zbi_e0, zbi_e1, eq_self, reduceCtorEq, Fin.isValue, zent, List.map_cons, List.map_nil, List.length_cons, List.length_nil, List.replicate, List.cons_append, List.nil_append, List.append_nil, Nat.zero_add, Nat.add_zero, zF_1, zF_2, zA_1, zA_2s, zA_2n, zB_1, zB_2s, zB_2n, not_true_eq_false, not_false_eq_true, Int32.reduceLT, Int32.reduceAdd, Int32.reduceSub, Int32.reduceMul, ne_eq, Int32.reduceToNatClampNeg, zlit_vp, nI_al, nI_la, nI_lm, nI_ml, nI_ltl, nI_llt, nI_eql, nI_lt2, nI_eq2, nI_vp, nI_cl, nI_add, pk_mul, nI_divl, nI_sub2, nI_lsub, nI_ne0l, nI_1, nI_pred, pk_m1, upd_s, upd_n, Nat.lt_irrefl, decide_eq_false_iff_not, decide_eq_true_eq, ite_not, ite_self, Nat.reducePow, Nat.reduceMul, c]
    exact hK _ rfl
  · simp only [c, decide_false, Bool.not_false, if_false, zbi_t] at hK
    have hP2 : ypar (zF s 24 (s.1 24 + 1)) := hP
    have hn0 := ypar_n0 hP2
    refine zgo hm hc (fun _ => false) 60 ?_
    simp (config := {decide := true, maxSteps := 1000000}) (disch := first | rfl | decide | omega) only [↓Z_X3_opens_0, ↓Z_X3_opens_1, ↓Z_X3_opens_4, ↓Z_X3_opens_6, ↓Z_X3_opens_9, ↓Z_X3_opens_10, ↓Z_X3_opens_11, ↓Z_X3_opens_14, ↓Z_X3_opens_15, ↓Z_X3_opens_16, ↓Z_X3_opens_17, ↓Z_X3_opens_20, ↓Z_X3_opens_21, ↓Z_X3_opens_22, ↓Z_X3_opens_25, ↓Z_X3_opens_26, ↓Z_X3_opens_29, ↓Z_X3_opens_30, ↓reduceIte, ↓zrun_stop, ↓zrun_step, ↓zb2_i, ↓zb1_i, ↓zldi_0, ↓zldi_s, ↓zlda_0, ↓zlda_n, ↓zlda_s, ↓zsc_0, ↓zsc_s, ↓zsti_c, ↓zsta_r, ↓zsta_n, ↓zic_0, ↓zic_s, ↓zpush_s, ↓zpush_n, ↓zfew_0, ↓zfew_i, ↓zfew_r, ↓zfew_n, ↓zMg'_227, ↓zMhp_iV, ↓zMp'_227, ↓CC_X3_opens_218, ↓CC_X3_opens_221, ↓TE_X3_bad, ↓TE_X3_next0, zcat_int, zcat_ref, zcat_null, zret_int, zret_b0, zret_b1, zret_b, Nat.reduceAdd, Nat.reduceSub, Nat.reduceLT, Nat.reduceEqDiff, Nat.reduceBEq, Nat.reduceBNe, true_and, and_true, if_true, if_false, Bool.false_eq_true, Bool.true_eq_false, Bool.or_self, Bool.or_false, Bool.or_true, Bool.false_or, Bool.true_or, zbi_e0, zbi_e1, eq_self, reduceCtorEq, Fin.isValue, zent, List.map_cons, List.map_nil, List.length_cons, List.length_nil, List.replicate, List.cons_append, List.nil_append, List.append_nil, Nat.zero_add, Nat.add_zero, zF_1, zF_2, zA_1, zA_2s, zA_2n, zB_1, zB_2s, zB_2n, not_true_eq_false, not_false_eq_true, Int32.reduceLT, Int32.reduceAdd, Int32.reduceSub, Int32.reduceMul, ne_eq, Int32.reduceToNatClampNeg, zlit_vp, nI_al, nI_la, nI_lm, nI_ml, nI_ltl, nI_llt, nI_eql, nI_lt2, nI_eq2, nI_vp, nI_cl, nI_add, pk_mul, nI_divl, nI_sub2, nI_lsub, nI_ne0l, nI_1, nI_pred, pk_m1, upd_s, upd_n, Nat.lt_irrefl, decide_eq_false_iff_not, decide_eq_true_eq, ite_not, ite_self, Nat.reducePow, Nat.reduceMul, c, hn0]
    refine ⟨hn0.2, ?_⟩
    rintro u ⟨h1, h2, h3⟩
    exact hK u (ynx_of (p := 0) hP2 h1 h2 (fun j a b c d => by rw [h3 j a b c d, zF_1]))
theorem MS_X3_opens {l : Launch} {E : zEnv} {b0 : Nat} : zMS l E b0 9 yX3_opens (ws_ yX3_opens cX3_opens 1 (some .boolean)) 0 0 (zlV E T_X3_opens) := by
  refine zM_MS (Γ := G_X3_opens) rfl (zΓok_cons (IM_X3_bad (by decide)) (zΓok_cons (IM_X3_next0 (by decide)) zΓok_nil)) (fun as s K h => ?_) ?_
  · have h1 := zx0_a as s K h
    exact ⟨by rw [h1.1]; decide, h1.2⟩
  · intro b as s K hT S hm hc
    have h0 := hT
    unfold T_X3_opens zx0 at h0
    split at h0
    · exact B_X3_opens b  s K hT S hm hc
    · exact h0.elim
theorem IM_X3_opens {l : Launch} {E : zEnv} {b0 d0 : Nat} (hd : 9 + 1 ≤ d0) : zΓokq l E b0 d0 (247, true, 0, T_X3_opens) := ⟨zx0_m, (fun _ => zInv.V MS_X3_opens hd (by decide) (lw_V q1624 q1626 qs83 q158 q1627) (by decide +kernel) rfl rfl), fun h => nomatch h⟩
theorem yno_bad {s u : zM} {k : Int32} (h : ypar s) (g : u = zF (zF s 21 k) 22 (s.1 19)) : yno s u k (yp s) := by
  subst g
  refine ⟨(yfe.rf.F (by omega)).F (by omega), rfl, ?_⟩
  show s.1 19 = nI (yp s)
  exact h.2.1.1
theorem ypre_ok {s u : zM} {c : List (Int32 × Int32)} {q : Nat} (hs : ypre s) (h : yok s u c q) (hsh : yp s + c.length ≤ q) (hq : q ≤ 1000) : ypre u := by
  obtain ⟨h1, h2, h3, h4, k', a, z, b, -, -⟩ := h
  obtain ⟨-, k, e, hk⟩ := hs
  rw [e] at a
  have : k = k' := (nI_eq (by omega) (by omega)).mp a
  subst this
  exact ⟨h2, k + c.length, b, by rw [h3]; omega⟩
theorem yno.fe {s u v : zM} {k : Int32} {q : Nat} (h : yfe s u) (g : yno u v k q) : yno s v k q := ⟨h.tr g.1, g.2.1, g.2.2⟩
def T_X3_unit : zT zM := zx0 (fun s => ypre s) (fun s => some (.int (zbi (yRb (yUnit (s.2 8) (yN s) (s.1 12) (yp s)))))) (fun s u => yRQ (yUnit (s.2 8) (yN s) (s.1 12) (yp s)) s u)
abbrev G_X3_unit : zΓ zM := [(77, false, 3, T_X3_isIn), (218, true, 1, T_X3_bad), (234, true, 2, T_X3_lay), (221, true, 0, T_X3_next0)]
theorem Z_X3_unit_0 {σ : Type} {ret : Option FieldType} {hp : Instr → List Value → σ → (List Value → σ → Prop) → Prop} {K : Option Value → σ → Prop} {S : Nat → zL → List Value → σ → Prop} {L : zL} {s : σ} {st : List Value} : zone ret hp K cX3_unit S 0 L st s = (zlda L 0 fun v => S 1 L (v :: st) s) := zone_of dX3_unit_0 rfl
theorem Z_X3_unit_1 {σ : Type} {ret : Option FieldType} {hp : Instr → List Value → σ → (List Value → σ → Prop) → Prop} {K : Option Value → σ → Prop} {S : Nat → zL → List Value → σ → Prop} {L : zL} {s : σ} {st : List Value} : zone ret hp K cX3_unit S 1 L st s = (hp (.getfield 197) st s (fun st' s' => S 4 L st' s')) := zone_of dX3_unit_1 rfl
theorem Z_X3_unit_4 {σ : Type} {ret : Option FieldType} {hp : Instr → List Value → σ → (List Value → σ → Prop) → Prop} {K : Option Value → σ → Prop} {S : Nat → zL → List Value → σ → Prop} {L : zL} {s : σ} {st : List Value} : zone ret hp K cX3_unit S 4 L st s = (S 6 L (.int 41 :: st) s) := zone_bipush dX3_unit_4 (by decide)
theorem Z_X3_unit_6 {σ : Type} {ret : Option FieldType} {hp : Instr → List Value → σ → (List Value → σ → Prop) → Prop} {K : Option Value → σ → Prop} {S : Nat → zL → List Value → σ → Prop} {L : zL} {s : σ} {st : List Value} : zone ret hp K cX3_unit S 6 L st s = (S 8 L (.int 50 :: st) s) := zone_bipush dX3_unit_6 (by decide)
theorem Z_X3_unit_8 {σ : Type} {ret : Option FieldType} {hp : Instr → List Value → σ → (List Value → σ → Prop) → Prop} {K : Option Value → σ → Prop} {S : Nat → zL → List Value → σ → Prop} {L : zL} {s : σ} {st : List Value} : zone ret hp K cX3_unit S 8 L st s = (hp (.invokestatic 77) st s (fun st' s' => S 11 L st' s')) := zone_of dX3_unit_8 rfl
theorem Z_X3_unit_11 {σ : Type} {ret : Option FieldType} {hp : Instr → List Value → σ → (List Value → σ → Prop) → Prop} {K : Option Value → σ → Prop} {S : Nat → zL → List Value → σ → Prop} {L : zL} {s : σ} {st : List Value} : zone ret hp K cX3_unit S 11 L st s = (zsti L 1 st fun q r => S 12 q r s) := zone_of dX3_unit_11 rfl
theorem Z_X3_unit_12 {σ : Type} {ret : Option FieldType} {hp : Instr → List Value → σ → (List Value → σ → Prop) → Prop} {K : Option Value → σ → Prop} {S : Nat → zL → List Value → σ → Prop} {L : zL} {s : σ} {st : List Value} : zone ret hp K cX3_unit S 12 L st s = (zlda L 0 fun v => S 13 L (v :: st) s) := zone_of dX3_unit_12 rfl
theorem Z_X3_unit_13 {σ : Type} {ret : Option FieldType} {hp : Instr → List Value → σ → (List Value → σ → Prop) → Prop} {K : Option Value → σ → Prop} {S : Nat → zL → List Value → σ → Prop} {L : zL} {s : σ} {st : List Value} : zone ret hp K cX3_unit S 13 L st s = (hp (.getfield 197) st s (fun st' s' => S 16 L st' s')) := zone_of dX3_unit_13 rfl
theorem Z_X3_unit_16 {σ : Type} {ret : Option FieldType} {hp : Instr → List Value → σ → (List Value → σ → Prop) → Prop} {K : Option Value → σ → Prop} {S : Nat → zL → List Value → σ → Prop} {L : zL} {s : σ} {st : List Value} : zone ret hp K cX3_unit S 16 L st s = (S 17 L (.int 2 :: st) s) := zone_iconst dX3_unit_16 (by decide)
theorem Z_X3_unit_17 {σ : Type} {ret : Option FieldType} {hp : Instr → List Value → σ → (List Value → σ → Prop) → Prop} {K : Option Value → σ → Prop} {S : Nat → zL → List Value → σ → Prop} {L : zL} {s : σ} {st : List Value} : zone ret hp K cX3_unit S 17 L st s = (zb2 st fun x y r => if x = y then S 30 L r s else S 20 L r s) := zone_ic_eq dX3_unit_17 (by decide)
theorem Z_X3_unit_20 {σ : Type} {ret : Option FieldType} {hp : Instr → List Value → σ → (List Value → σ → Prop) → Prop} {K : Option Value → σ → Prop} {S : Nat → zL → List Value → σ → Prop} {L : zL} {s : σ} {st : List Value} : zone ret hp K cX3_unit S 20 L st s = (zldi L 1 fun v => S 21 L (v :: st) s) := zone_of dX3_unit_20 rfl
theorem Z_X3_unit_21 {σ : Type} {ret : Option FieldType} {hp : Instr → List Value → σ → (List Value → σ → Prop) → Prop} {K : Option Value → σ → Prop} {S : Nat → zL → List Value → σ → Prop} {L : zL} {s : σ} {st : List Value} : zone ret hp K cX3_unit S 21 L st s = (zb1 st fun x r => if x = 0 then S 24 L r s else S 30 L r s) := zone_if_ne dX3_unit_21 (by decide)
theorem Z_X3_unit_24 {σ : Type} {ret : Option FieldType} {hp : Instr → List Value → σ → (List Value → σ → Prop) → Prop} {K : Option Value → σ → Prop} {S : Nat → zL → List Value → σ → Prop} {L : zL} {s : σ} {st : List Value} : zone ret hp K cX3_unit S 24 L st s = (zlda L 0 fun v => S 25 L (v :: st) s) := zone_of dX3_unit_24 rfl
theorem Z_X3_unit_25 {σ : Type} {ret : Option FieldType} {hp : Instr → List Value → σ → (List Value → σ → Prop) → Prop} {K : Option Value → σ → Prop} {S : Nat → zL → List Value → σ → Prop} {L : zL} {s : σ} {st : List Value} : zone ret hp K cX3_unit S 25 L st s = (S 26 L (.int 1 :: st) s) := zone_iconst dX3_unit_25 (by decide)
theorem Z_X3_unit_26 {σ : Type} {ret : Option FieldType} {hp : Instr → List Value → σ → (List Value → σ → Prop) → Prop} {K : Option Value → σ → Prop} {S : Nat → zL → List Value → σ → Prop} {L : zL} {s : σ} {st : List Value} : zone ret hp K cX3_unit S 26 L st s = (hp (.invokevirtual 218) st s (fun st' s' => S 29 L st' s')) := zone_of dX3_unit_26 rfl
theorem Z_X3_unit_29 {σ : Type} {ret : Option FieldType} {hp : Instr → List Value → σ → (List Value → σ → Prop) → Prop} {K : Option Value → σ → Prop} {S : Nat → zL → List Value → σ → Prop} {L : zL} {s : σ} {v : Int32} : zone ret hp K cX3_unit S 29 L [.int v] s = (zretI ret v ∧ K (some (.int v)) s) := zone_of dX3_unit_29 rfl
theorem Z_X3_unit_30 {σ : Type} {ret : Option FieldType} {hp : Instr → List Value → σ → (List Value → σ → Prop) → Prop} {K : Option Value → σ → Prop} {S : Nat → zL → List Value → σ → Prop} {L : zL} {s : σ} {st : List Value} : zone ret hp K cX3_unit S 30 L st s = (zlda L 0 fun v => S 31 L (v :: st) s) := zone_of dX3_unit_30 rfl
theorem Z_X3_unit_31 {σ : Type} {ret : Option FieldType} {hp : Instr → List Value → σ → (List Value → σ → Prop) → Prop} {K : Option Value → σ → Prop} {S : Nat → zL → List Value → σ → Prop} {L : zL} {s : σ} {st : List Value} : zone ret hp K cX3_unit S 31 L st s = (zldi L 1 fun v => S 32 L (v :: st) s) := zone_of dX3_unit_31 rfl
theorem Z_X3_unit_32 {σ : Type} {ret : Option FieldType} {hp : Instr → List Value → σ → (List Value → σ → Prop) → Prop} {K : Option Value → σ → Prop} {S : Nat → zL → List Value → σ → Prop} {L : zL} {s : σ} {st : List Value} : zone ret hp K cX3_unit S 32 L st s = (zb1 st fun x r => if x = 0 then S 45 L r s else S 35 L r s) := zone_if_eq dX3_unit_32 (by decide)
theorem Z_X3_unit_35 {σ : Type} {ret : Option FieldType} {hp : Instr → List Value → σ → (List Value → σ → Prop) → Prop} {K : Option Value → σ → Prop} {S : Nat → zL → List Value → σ → Prop} {L : zL} {s : σ} {st : List Value} : zone ret hp K cX3_unit S 35 L st s = (zlda L 0 fun v => S 36 L (v :: st) s) := zone_of dX3_unit_35 rfl
theorem Z_X3_unit_36 {σ : Type} {ret : Option FieldType} {hp : Instr → List Value → σ → (List Value → σ → Prop) → Prop} {K : Option Value → σ → Prop} {S : Nat → zL → List Value → σ → Prop} {L : zL} {s : σ} {st : List Value} : zone ret hp K cX3_unit S 36 L st s = (hp (.getfield 197) st s (fun st' s' => S 39 L st' s')) := zone_of dX3_unit_36 rfl
theorem Z_X3_unit_39 {σ : Type} {ret : Option FieldType} {hp : Instr → List Value → σ → (List Value → σ → Prop) → Prop} {K : Option Value → σ → Prop} {S : Nat → zL → List Value → σ → Prop} {L : zL} {s : σ} {st : List Value} : zone ret hp K cX3_unit S 39 L st s = (S 41 L (.int 40 :: st) s) := zone_bipush dX3_unit_39 (by decide)
theorem Z_X3_unit_41 {σ : Type} {ret : Option FieldType} {hp : Instr → List Value → σ → (List Value → σ → Prop) → Prop} {K : Option Value → σ → Prop} {S : Nat → zL → List Value → σ → Prop} {L : zL} {s : σ} {st : List Value} : zone ret hp K cX3_unit S 41 L st s = (zb2 st fun x y r => S 42 L (.int (x - y) :: r) s) := zone_of dX3_unit_41 rfl
theorem Z_X3_unit_42 {σ : Type} {ret : Option FieldType} {hp : Instr → List Value → σ → (List Value → σ → Prop) → Prop} {K : Option Value → σ → Prop} {S : Nat → zL → List Value → σ → Prop} {L : zL} {s : σ} {st : List Value} : zone ret hp K cX3_unit S 42 L st s = (S 46 L st s) := zone_goto dX3_unit_42 (by decide)
theorem Z_X3_unit_45 {σ : Type} {ret : Option FieldType} {hp : Instr → List Value → σ → (List Value → σ → Prop) → Prop} {K : Option Value → σ → Prop} {S : Nat → zL → List Value → σ → Prop} {L : zL} {s : σ} {st : List Value} : zone ret hp K cX3_unit S 45 L st s = (S 46 L (.int 0 :: st) s) := zone_iconst dX3_unit_45 (by decide)
theorem Z_X3_unit_46 {σ : Type} {ret : Option FieldType} {hp : Instr → List Value → σ → (List Value → σ → Prop) → Prop} {K : Option Value → σ → Prop} {S : Nat → zL → List Value → σ → Prop} {L : zL} {s : σ} {st : List Value} : zone ret hp K cX3_unit S 46 L st s = (zlda L 0 fun v => S 47 L (v :: st) s) := zone_of dX3_unit_46 rfl
theorem Z_X3_unit_47 {σ : Type} {ret : Option FieldType} {hp : Instr → List Value → σ → (List Value → σ → Prop) → Prop} {K : Option Value → σ → Prop} {S : Nat → zL → List Value → σ → Prop} {L : zL} {s : σ} {st : List Value} : zone ret hp K cX3_unit S 47 L st s = (hp (.getfield 209) st s (fun st' s' => S 50 L st' s')) := zone_of dX3_unit_47 rfl
theorem Z_X3_unit_50 {σ : Type} {ret : Option FieldType} {hp : Instr → List Value → σ → (List Value → σ → Prop) → Prop} {K : Option Value → σ → Prop} {S : Nat → zL → List Value → σ → Prop} {L : zL} {s : σ} {st : List Value} : zone ret hp K cX3_unit S 50 L st s = (hp (.invokevirtual 234) st s (fun st' s' => S 53 L st' s')) := zone_of dX3_unit_50 rfl
theorem Z_X3_unit_53 {σ : Type} {ret : Option FieldType} {hp : Instr → List Value → σ → (List Value → σ → Prop) → Prop} {K : Option Value → σ → Prop} {S : Nat → zL → List Value → σ → Prop} {L : zL} {s : σ} {st : List Value} : zone ret hp K cX3_unit S 53 L st s = (zlda L 0 fun v => S 54 L (v :: st) s) := zone_of dX3_unit_53 rfl
theorem Z_X3_unit_54 {σ : Type} {ret : Option FieldType} {hp : Instr → List Value → σ → (List Value → σ → Prop) → Prop} {K : Option Value → σ → Prop} {S : Nat → zL → List Value → σ → Prop} {L : zL} {s : σ} {st : List Value} : zone ret hp K cX3_unit S 54 L st s = (hp (.invokevirtual 221) st s (fun st' s' => S 57 L st' s')) := zone_of dX3_unit_54 rfl
theorem Z_X3_unit_57 {σ : Type} {ret : Option FieldType} {hp : Instr → List Value → σ → (List Value → σ → Prop) → Prop} {K : Option Value → σ → Prop} {S : Nat → zL → List Value → σ → Prop} {L : zL} {s : σ} {st : List Value} : zone ret hp K cX3_unit S 57 L st s = (S 58 L (.int 1 :: st) s) := zone_iconst dX3_unit_57 (by decide)
theorem Z_X3_unit_58 {σ : Type} {ret : Option FieldType} {hp : Instr → List Value → σ → (List Value → σ → Prop) → Prop} {K : Option Value → σ → Prop} {S : Nat → zL → List Value → σ → Prop} {L : zL} {s : σ} {v : Int32} : zone ret hp K cX3_unit S 58 L [.int v] s = (zretI ret v ∧ K (some (.int v)) s) := zone_of dX3_unit_58 rfl
theorem CC_X3_unit_77 {a0 a1 a2 : Value} {r : List Value} {s : zM} {k : List Value → zM → Prop} : zcallS G_X3_unit 77 (a2 :: a1 :: a0 :: r) s k = (zfew r 8 = true ∧ T_X3_isIn [a0, a1, a2] s (fun v s' => zpush v r (fun q => k q s'))) := zcS_n rfl rfl
theorem CC_X3_unit_218 {b : Nat} {a0 : Value} {r : List Value} {s : zM} {k : List Value → zM → Prop} : zcallV b G_X3_unit 218 (a0 :: .ref b :: r) s k = (zfew r 8 = true ∧ T_X3_bad [a0] s (fun v s' => zpush v r (fun q => k q s'))) := zcV_n rfl rfl
theorem CC_X3_unit_234 {b : Nat} {a0 a1 : Value} {r : List Value} {s : zM} {k : List Value → zM → Prop} : zcallV b G_X3_unit 234 (a1 :: a0 :: .ref b :: r) s k = (zfew r 8 = true ∧ T_X3_lay [a0, a1] s (fun v s' => zpush v r (fun q => k q s'))) := zcV_n rfl rfl
theorem CC_X3_unit_221 {b : Nat} {r : List Value} {s : zM} {k : List Value → zM → Prop} : zcallV b G_X3_unit 221 (.ref b :: r) s k = (zfew r 8 = true ∧ T_X3_next0 [] s (fun v s' => zpush v r (fun q => k q s'))) := zcV_n rfl rfl
theorem TE_X3_unit {s : zM} {K : Option Value → zM → Prop} : T_X3_unit [] s K = ((fun s => ypre s)  s ∧ ∀ u9 : zM, (fun s u => yRQ (yUnit (s.2 8) (yN s) (s.1 12) (yp s)) s u)  s u9 → K ((fun s => some (.int (zbi (yRb (yUnit (s.2 8) (yN s) (s.1 12) (yp s))))))  s) u9) := rfl
set_option maxRecDepth 100000 in
set_option maxHeartbeats 4000000 in
theorem B_X3_unit {E : zEnv} (b : Nat) (s : zM) (K : Option Value → zM → Prop) (hT : T_X3_unit [] s K) (S : Nat → zL → List Value → zM → Prop) (hm : zMono (zMhp E b G_X3_unit)) (hc : zClosed (some .boolean) (zMhp E b G_X3_unit) K cX3_unit S) : S 0 [some (.ref b), none] [] s := by
  obtain ⟨hpre, hK⟩ := hT
  dsimp only at hpre hK
  have hpre2 := hpre
  obtain ⟨hP, k, e14, hk⟩ := hpre
  have hP2 := hP
  obtain ⟨⟨t1, t2, t3⟩, ⟨b1, b2, b3, b4⟩, hc9⟩ := hP
  have hk4 : k < 410 := by omega
  have hlay : ∀ x v x' v', ysim1 (x', v') (x, v) → yfe s (ylayS s x v) ∧ ylaid6 s (ylayS s x v) [(x', v')] := fun x v x' v' h => ⟨by
    unfold ylayS
    exact ⟨fun q hq => by rw [zF_2, zB_2n hq], fun j a1 a2 a3 a4 a5 a6 a7 a8 => by rw [zF_1, if_neg a1]; rfl⟩, ylaid6.one e14 (by omega) h⟩
  have hend : ∀ x v x' v', ysim1 (x', v') (x, v) → ∀ u, u.2 = (ylayS s x v).2 → ytok u (yskip ((ylayS s x v).2 8) (yN (ylayS s x v)) ((ylayS s x v).1 17).toNatClampNeg) → (∀ j, j ≠ 17 → j ≠ 18 → j ≠ 19 → j ≠ 20 → u.1 j = (ylayS s x v).1 j) → yok s u [(x', v')] (yX (s.2 8) (yN s) (yp s)) := by
    intro x v x' v' hsm u g1 g2 g3
    obtain ⟨f1, f2⟩ := hlay x v x' v' hsm
    have hPL : ypar (ylayS s x v) := hP2
    have hnx := ynx_of (p := 0) hPL g1 g2 g3
    obtain ⟨n1, n2, n3, n4⟩ := hnx
    refine ⟨f1.tr (ynx.fe ⟨n1, n2, n3, n4⟩), n2, n3, ?_, ?_⟩
    · rw [n4 24 (by omega) (by omega) (by omega) (by omega)]; rfl
    · exact f2.same rfl rfl (n4 14 (by omega) (by omega) (by omega) (by omega)) (by rw [n1])
  have hn0 : ∀ x v, ytape (ylayS s x v) ∧ ∃ a : Nat, (ylayS s x v).1 17 = nI a ∧ a ≤ yN (ylayS s x v) := fun x v => ypar_n0 (s := ylayS s x v) hP2
  unfold yUnit at hK
  rw [← b3] at hK
  have hlk : ∃ k : Nat, s.1 14 = nI k ∧ k < 410 := ⟨k, e14, hk4⟩
  by_cases c1 : s.1 18 = 2
  · have e20 := b4 (by rw [← b3]; exact c1)
    simp only [c1, if_true] at hK
    refine zgo hm hc (fun _ => false) 80 ?_
    simp (config := {decide := true, maxSteps := 1000000}) (disch := first | rfl | decide | omega) only [↓Z_X3_unit_0, ↓Z_X3_unit_1, ↓Z_X3_unit_4, ↓Z_X3_unit_6, ↓Z_X3_unit_8, ↓Z_X3_unit_11, ↓Z_X3_unit_12, ↓Z_X3_unit_13, ↓Z_X3_unit_16, ↓Z_X3_unit_17, ↓Z_X3_unit_20, ↓Z_X3_unit_21, ↓Z_X3_unit_24, ↓Z_X3_unit_25, ↓Z_X3_unit_26, ↓Z_X3_unit_29, ↓Z_X3_unit_30, ↓Z_X3_unit_31, ↓Z_X3_unit_32, ↓Z_X3_unit_35, ↓Z_X3_unit_36, ↓Z_X3_unit_39, ↓Z_X3_unit_41, ↓Z_X3_unit_42, ↓Z_X3_unit_45, ↓Z_X3_unit_46, ↓Z_X3_unit_47, ↓Z_X3_unit_50, ↓Z_X3_unit_53, ↓Z_X3_unit_54, ↓Z_X3_unit_57, ↓Z_X3_unit_58, ↓reduceIte, ↓zrun_stop, ↓zrun_step, ↓zb2_i, ↓zb1_i, ↓zldi_0, ↓zldi_s, ↓zlda_0, ↓zlda_n, ↓zlda_s, ↓zsc_0, ↓zsc_s, ↓zsti_c, ↓zsta_r, ↓zsta_n, ↓zic_0, ↓zic_s, ↓zpush_s, ↓zpush_n, ↓zfew_0, ↓zfew_i, ↓zfew_r, ↓zfew_n, ↓zMg'_197, ↓zMg'_209, ↓zMhp_iS, ↓zMhp_iV, ↓CC_X3_unit_77, ↓CC_X3_unit_218, ↓CC_X3_unit_234, ↓CC_X3_unit_221, ↓TE_X3_isIn, ↓TE_X3_bad, ↓TE_X3_lay, ↓TE_X3_next0, zcat_int, zcat_ref, zcat_null, zret_int, zret_b0, zret_b1, zret_b, Nat.reduceAdd, Nat.reduceSub, Nat.reduceLT, Nat.reduceEqDiff, Nat.reduceBEq, Nat.reduceBNe, true_and, and_true, if_true, if_false, Bool.false_eq_true, Bool.true_eq_false, Bool.or_self, Bool.or_false, Bool.or_true, Bool.false_or, Bool.true_or, zbi_e0, zbi_e1, eq_self, reduceCtorEq, Fin.isValue, zent, List.map_cons, List.map_nil, List.length_cons, List.length_nil, List.replicate, List.cons_append, List.nil_append, List.append_nil, Nat.zero_add, Nat.add_zero, zF_1, zF_2, zA_1, zA_2s, zA_2n, zB_1, zB_2s, zB_2n, not_true_eq_false, not_false_eq_true, Int32.reduceLT, Int32.reduceAdd, Int32.reduceSub, Int32.reduceMul, ne_eq, Int32.reduceToNatClampNeg, zlit_vp, nI_al, nI_la, nI_lm, nI_ml, nI_ltl, nI_llt, nI_eql, nI_lt2, nI_eq2, nI_vp, nI_cl, nI_add, pk_mul, nI_divl, nI_sub2, nI_lsub, nI_ne0l, nI_1, nI_pred, pk_m1, upd_s, upd_n, Nat.lt_irrefl, decide_eq_false_iff_not, decide_eq_true_eq, ite_not, ite_self, Nat.reducePow, Nat.reduceMul, c1, hlk, hn0, show yin 2 41 50 = false from by decide]
    rintro u ⟨g1, g2, g3⟩
    exact hK u (hend 0 (s.1 20) 0 (ytval (s.2 8) (yN s) (yp s)) ⟨rfl, Or.inr e20⟩ u g1 g2 g3)
  · cases c2 : yin (s.1 18) 41 50
    · simp only [c1, c2, if_false, Bool.false_eq_true] at hK
      refine zgo hm hc (fun _ => false) 80 ?_
      simp (config := {decide := true, maxSteps := 1000000}) (disch := first | rfl | decide | omega) only [↓Z_X3_unit_0, ↓Z_X3_unit_1, ↓Z_X3_unit_4, ↓Z_X3_unit_6, ↓Z_X3_unit_8, ↓Z_X3_unit_11, ↓Z_X3_unit_12, ↓Z_X3_unit_13, ↓Z_X3_unit_16, ↓Z_X3_unit_17, ↓Z_X3_unit_20, ↓Z_X3_unit_21, ↓Z_X3_unit_24, ↓Z_X3_unit_25, ↓Z_X3_unit_26, ↓Z_X3_unit_29, ↓Z_X3_unit_30, ↓Z_X3_unit_31, ↓Z_X3_unit_32, ↓Z_X3_unit_35, ↓Z_X3_unit_36, ↓Z_X3_unit_39, ↓Z_X3_unit_41, ↓Z_X3_unit_42, ↓Z_X3_unit_45, ↓Z_X3_unit_46, ↓Z_X3_unit_47, ↓Z_X3_unit_50, ↓Z_X3_unit_53, ↓Z_X3_unit_54, ↓Z_X3_unit_57, ↓Z_X3_unit_58, ↓reduceIte, ↓zrun_stop, ↓zrun_step, ↓zb2_i, ↓zb1_i, ↓zldi_0, ↓zldi_s, ↓zlda_0, ↓zlda_n, ↓zlda_s, ↓zsc_0, ↓zsc_s, ↓zsti_c, ↓zsta_r, ↓zsta_n, ↓zic_0, ↓zic_s, ↓zpush_s, ↓zpush_n, ↓zfew_0, ↓zfew_i, ↓zfew_r, ↓zfew_n, ↓zMg'_197, ↓zMg'_209, ↓zMhp_iS, ↓zMhp_iV, ↓CC_X3_unit_77, ↓CC_X3_unit_218, ↓CC_X3_unit_234, ↓CC_X3_unit_221, ↓TE_X3_isIn, ↓TE_X3_bad, ↓TE_X3_lay, ↓TE_X3_next0, zcat_int, zcat_ref, zcat_null, zret_int, zret_b0, zret_b1, zret_b, Nat.reduceAdd, Nat.reduceSub, Nat.reduceLT, Nat.reduceEqDiff, Nat.reduceBEq, Nat.reduceBNe, true_and, and_true, if_true, if_false, Bool.false_eq_true, Bool.true_eq_false, Bool.or_self, Bool.or_false, Bool.or_true, Bool.false_or, Bool.true_or, zbi_e0, zbi_e1, eq_self, reduceCtorEq, Fin.isValue, zent, List.map_cons, List.map_nil, List.length_cons, List.length_nil, List.replicate, List.cons_append, List.nil_append, List.append_nil, Nat.zero_add, Nat.add_zero, zF_1, zF_2, zA_1, zA_2s, zA_2n, zB_1, zB_2s, zB_2n, not_true_eq_false, not_false_eq_true, Int32.reduceLT, Int32.reduceAdd, Int32.reduceSub, Int32.reduceMul, ne_eq, Int32.reduceToNatClampNeg, zlit_vp, nI_al, nI_la, nI_lm, nI_ml, nI_ltl, nI_llt, nI_eql, nI_lt2, nI_eq2, nI_vp, nI_cl, nI_add, pk_mul, nI_divl, nI_sub2, nI_lsub, nI_ne0l, nI_1, nI_pred, pk_m1, upd_s, upd_n, Nat.lt_irrefl, decide_eq_false_iff_not, decide_eq_true_eq, ite_not, ite_self, Nat.reducePow, Nat.reduceMul, c1, c2]
      exact hK _ (yno_bad hP2 rfl)
    · simp only [c1, c2, if_true, if_false] at hK
      refine zgo hm hc (fun _ => false) 80 ?_
      simp (config := {decide := true, maxSteps := 1000000}) (disch := first | rfl | decide | omega) only [↓Z_X3_unit_0, ↓Z_X3_unit_1, ↓Z_X3_unit_4, ↓Z_X3_unit_6, ↓Z_X3_unit_8, ↓Z_X3_unit_11, ↓Z_X3_unit_12, ↓Z_X3_unit_13, ↓Z_X3_unit_16, ↓Z_X3_unit_17, ↓Z_X3_unit_20, ↓Z_X3_unit_21, ↓Z_X3_unit_24, ↓Z_X3_unit_25, ↓Z_X3_unit_26, ↓Z_X3_unit_29, ↓Z_X3_unit_30, ↓Z_X3_unit_31, ↓Z_X3_unit_32, ↓Z_X3_unit_35, ↓Z_X3_unit_36, ↓Z_X3_unit_39, ↓Z_X3_unit_41, ↓Z_X3_unit_42, ↓Z_X3_unit_45, ↓Z_X3_unit_46, ↓Z_X3_unit_47, ↓Z_X3_unit_50, ↓Z_X3_unit_53, ↓Z_X3_unit_54, ↓Z_X3_unit_57, ↓Z_X3_unit_58, ↓reduceIte, ↓zrun_stop, ↓zrun_step, ↓zb2_i, ↓zb1_i, ↓zldi_0, ↓zldi_s, ↓zlda_0, ↓zlda_n, ↓zlda_s, ↓zsc_0, ↓zsc_s, ↓zsti_c, ↓zsta_r, ↓zsta_n, ↓zic_0, ↓zic_s, ↓zpush_s, ↓zpush_n, ↓zfew_0, ↓zfew_i, ↓zfew_r, ↓zfew_n, ↓zMg'_197, ↓zMg'_209, ↓zMhp_iS, ↓zMhp_iV, ↓CC_X3_unit_77, ↓CC_X3_unit_218, ↓CC_X3_unit_234, ↓CC_X3_unit_221, ↓TE_X3_isIn, ↓TE_X3_bad, ↓TE_X3_lay, ↓TE_X3_next0, zcat_int, zcat_ref, zcat_null, zret_int, zret_b0, zret_b1, zret_b, Nat.reduceAdd, Nat.reduceSub, Nat.reduceLT, Nat.reduceEqDiff, Nat.reduceBEq, Nat.reduceBNe, true_and, and_true, if_true, if_false, Bool.false_eq_true, Bool.true_eq_false, Bool.or_self, Bool.or_false, Bool.or_true, Bool.false_or, Bool.true_or, zbi_e0, zbi_e1, eq_self, reduceCtorEq, Fin.isValue, zent, List.map_cons, List.map_nil, List.length_cons, List.length_nil, List.replicate, List.cons_append, List.nil_append, List.append_nil, Nat.zero_add, Nat.add_zero, zF_1, zF_2, zA_1, zA_2s, zA_2n, zB_1, zB_2s, zB_2n, not_true_eq_false, not_false_eq_true, Int32.reduceLT, Int32.reduceAdd, Int32.reduceSub, Int32.reduceMul, ne_eq, Int32.reduceToNatClampNeg, zlit_vp, nI_al, nI_la, nI_lm, nI_ml, nI_ltl, nI_llt, nI_eql, nI_lt2, nI_eq2, nI_vp, nI_cl, nI_add, pk_mul, nI_divl, nI_sub2, nI_lsub, nI_ne0l, nI_1, nI_pred, pk_m1, upd_s, upd_n, Nat.lt_irrefl, decide_eq_false_iff_not, decide_eq_true_eq, ite_not, ite_self, Nat.reducePow, Nat.reduceMul, c1, c2, hlk, hn0]
      rintro u ⟨g1, g2, g3⟩
      refine hK u (hend (s.1 18 - 40) (s.1 20) (s.1 18 - 40) 0 ⟨rfl, Or.inl ?_⟩ u g1 g2 g3)
      obtain ⟨z, z1, z2, ez⟩ := (yin_ab (a := 41) (b := 50) rfl rfl (by omega) (by omega)).mp c2
      rw [ez, nI_sl (show (40 : Nat) ≤ z by omega)]
      exact (yin_ab (a := 1) (b := 10) rfl rfl (by omega) (by omega)).mpr ⟨z - 40, by omega, by omega, rfl⟩
theorem MS_X3_unit {l : Launch} {E : zEnv} {b0 : Nat} : zMS l E b0 9 yX3_unit (ws_ yX3_unit cX3_unit 2 (some .boolean)) 0 0 (zlV E T_X3_unit) := by
  refine zM_MS (Γ := G_X3_unit) rfl (zΓok_cons (IM_X3_isIn (by decide)) (zΓok_cons (IM_X3_bad (by decide)) (zΓok_cons (IM_X3_lay (by decide)) (zΓok_cons (IM_X3_next0 (by decide)) zΓok_nil)))) (fun as s K h => ?_) ?_
  · have h1 := zx0_a as s K h
    exact ⟨by rw [h1.1]; decide, h1.2⟩
  · intro b as s K hT S hm hc
    have h0 := hT
    unfold T_X3_unit zx0 at h0
    split at h0
    · exact B_X3_unit b  s K hT S hm hc
    · exact h0.elim
theorem IM_X3_unit {l : Launch} {E : zEnv} {b0 d0 : Nat} (hd : 9 + 1 ≤ d0) : zΓokq l E b0 d0 (238, true, 0, T_X3_unit) := ⟨zx0_m, (fun _ => zInv.V MS_X3_unit hd (by decide) (lw_V q1604 q1606 qs78 q158 q1607) (by decide +kernel) rfl rfl), fun h => nomatch h⟩
