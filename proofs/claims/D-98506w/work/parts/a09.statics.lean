/-! ===== ToolUnion: small static methods; a tool, a man ===== -/
def P_X0_isIn (E : zEnv) (b : Nat) (v : Int32) (lo : Int32) (hi : Int32) (s : zX) : Prop := True
def Q_X0_isIn (E : zEnv) (b : Nat) (v : Int32) (lo : Int32) (hi : Int32) (s : zX) (K : Option Value → zX → Prop) : Prop := K (some (.int (zbi (yin v lo hi)))) (s)
def T_X0_isIn (E : zEnv) (b : Nat) : zT zX := fun as s K => match as with
  | [.int v, .int lo, .int hi] => P_X0_isIn E b v lo hi s ∧ Q_X0_isIn E b v lo hi s K
  | _ => False
theorem TE_X0_isIn {E : zEnv} {b : Nat} {v : Int32} {lo : Int32} {hi : Int32} {s : zX} {K : Option Value → zX → Prop} : T_X0_isIn E b [.int v, .int lo, .int hi] s K = ((True) ∧ (K (some (.int (zbi (yin v lo hi)))) (s))) := by
  exact rfl
theorem Tm_X0_isIn {E : zEnv} {b : Nat} : zTm (T_X0_isIn E b) := by
  intro as s K K' hk h
  unfold T_X0_isIn at h ⊢
  split at h
  · exact ⟨h.1, hk _ _ (h.2)⟩
  · exact h.elim
theorem TC_X0_isIn {E : zEnv} {b : Nat} {as : List Value} {s : zX} {K : Option Value → zX → Prop} (h : T_X0_isIn E b as s K) : ∃ (v : Int32) (lo : Int32) (hi : Int32), as = [.int v, .int lo, .int hi] ∧ P_X0_isIn E b v lo hi s ∧ Q_X0_isIn E b v lo hi s K := by
  unfold T_X0_isIn at h
  split at h
  · exact ⟨_, _, _, rfl, h⟩
  · exact h.elim
abbrev G_X0_isIn (E : zEnv) (b : Nat) : zΓ zX := []
theorem Z_X0_isIn_0 {σ : Type} {ret : Option FieldType} {hp : Instr → List Value → σ → (List Value → σ → Prop) → Prop} {K : Option Value → σ → Prop} {S : Nat → zL → List Value → σ → Prop} {L : zL} {s : σ} {st : List Value} : zone ret hp K cX0_isIn S 0 L st s = (zldi L 0 fun v => S 1 L (v :: st) s) := zone_of dX0_isIn_0 rfl
theorem Z_X0_isIn_1 {σ : Type} {ret : Option FieldType} {hp : Instr → List Value → σ → (List Value → σ → Prop) → Prop} {K : Option Value → σ → Prop} {S : Nat → zL → List Value → σ → Prop} {L : zL} {s : σ} {st : List Value} : zone ret hp K cX0_isIn S 1 L st s = (zldi L 1 fun v => S 2 L (v :: st) s) := zone_of dX0_isIn_1 rfl
theorem Z_X0_isIn_2 {σ : Type} {ret : Option FieldType} {hp : Instr → List Value → σ → (List Value → σ → Prop) → Prop} {K : Option Value → σ → Prop} {S : Nat → zL → List Value → σ → Prop} {L : zL} {s : σ} {st : List Value} : zone ret hp K cX0_isIn S 2 L st s = (zb2 st fun x y r => if x < y then S 14 L r s else S 5 L r s) := zone_ic_lt dX0_isIn_2 (by decide)
theorem Z_X0_isIn_5 {σ : Type} {ret : Option FieldType} {hp : Instr → List Value → σ → (List Value → σ → Prop) → Prop} {K : Option Value → σ → Prop} {S : Nat → zL → List Value → σ → Prop} {L : zL} {s : σ} {st : List Value} : zone ret hp K cX0_isIn S 5 L st s = (zldi L 0 fun v => S 6 L (v :: st) s) := zone_of dX0_isIn_5 rfl
theorem Z_X0_isIn_6 {σ : Type} {ret : Option FieldType} {hp : Instr → List Value → σ → (List Value → σ → Prop) → Prop} {K : Option Value → σ → Prop} {S : Nat → zL → List Value → σ → Prop} {L : zL} {s : σ} {st : List Value} : zone ret hp K cX0_isIn S 6 L st s = (zldi L 2 fun v => S 7 L (v :: st) s) := zone_of dX0_isIn_6 rfl
theorem Z_X0_isIn_7 {σ : Type} {ret : Option FieldType} {hp : Instr → List Value → σ → (List Value → σ → Prop) → Prop} {K : Option Value → σ → Prop} {S : Nat → zL → List Value → σ → Prop} {L : zL} {s : σ} {st : List Value} : zone ret hp K cX0_isIn S 7 L st s = (zb2 st fun x y r => if y < x then S 14 L r s else S 10 L r s) := zone_ic_gt dX0_isIn_7 (by decide)
theorem Z_X0_isIn_10 {σ : Type} {ret : Option FieldType} {hp : Instr → List Value → σ → (List Value → σ → Prop) → Prop} {K : Option Value → σ → Prop} {S : Nat → zL → List Value → σ → Prop} {L : zL} {s : σ} {st : List Value} : zone ret hp K cX0_isIn S 10 L st s = (S 11 L (.int 1 :: st) s) := zone_iconst dX0_isIn_10 (by decide)
theorem Z_X0_isIn_11 {σ : Type} {ret : Option FieldType} {hp : Instr → List Value → σ → (List Value → σ → Prop) → Prop} {K : Option Value → σ → Prop} {S : Nat → zL → List Value → σ → Prop} {L : zL} {s : σ} {st : List Value} : zone ret hp K cX0_isIn S 11 L st s = (S 15 L st s) := zone_goto dX0_isIn_11 (by decide)
theorem Z_X0_isIn_14 {σ : Type} {ret : Option FieldType} {hp : Instr → List Value → σ → (List Value → σ → Prop) → Prop} {K : Option Value → σ → Prop} {S : Nat → zL → List Value → σ → Prop} {L : zL} {s : σ} {st : List Value} : zone ret hp K cX0_isIn S 14 L st s = (S 15 L (.int 0 :: st) s) := zone_iconst dX0_isIn_14 (by decide)
theorem Z_X0_isIn_15 {σ : Type} {ret : Option FieldType} {hp : Instr → List Value → σ → (List Value → σ → Prop) → Prop} {K : Option Value → σ → Prop} {S : Nat → zL → List Value → σ → Prop} {L : zL} {s : σ} {v : Int32} : zone ret hp K cX0_isIn S 15 L [.int v] s = (zretI ret v ∧ K (some (.int v)) s) := zone_of dX0_isIn_15 rfl
set_option maxRecDepth 100000 in
set_option maxHeartbeats 4000000 in
theorem B_X0_isIn (E : zEnv) (b : Nat) (v : Int32) (lo : Int32) (hi : Int32) (s : zX) (K : Option Value → zX → Prop) (hP : True) (hK : K (some (.int (zbi (yin v lo hi)))) (s)) (hKM : ∀ v u m, K v (xM u m) = K v u) (S : Nat → zL → List Value → zX → Prop) (hm : zMono (xhp E b rt1 (G_X0_isIn E b))) (hc : zClosed (some .boolean) (xhp E b rt1 (G_X0_isIn E b)) K cX0_isIn S) (hSM : ∀ pc L st u m, S pc L st (xM u m) = S pc L st u) : S 0 [some (.int v), some (.int lo), some (.int hi)] [] s := by
  unfold yin at hK
  refine zgo hm hc (fun _ => false) 30 ?_
  simp (config := {decide := true, maxSteps := 1000000}) (disch := first | rfl | with_unfolding_all rfl | omega | assumption | with_unfolding_all assumption | decide) only [↓Z_X0_isIn_0, ↓Z_X0_isIn_1, ↓Z_X0_isIn_2, ↓Z_X0_isIn_5, ↓Z_X0_isIn_6, ↓Z_X0_isIn_7, ↓Z_X0_isIn_10, ↓Z_X0_isIn_11, ↓Z_X0_isIn_14, ↓Z_X0_isIn_15, ↓reduceIte, ↓zrun_stop, ↓zrun_step, ↓zb2_i, ↓zb1_i, ↓zldi_0, ↓zldi_s, ↓zlda_0, ↓zlda_n, ↓zlda_s, ↓zsc_0, ↓zsc_s, ↓zsti_c, ↓zsta_r, ↓zsta_n, ↓zic_0, ↓zic_s, ↓zpush_s, ↓zpush_n, ↓zfew_0, ↓zfew_i, ↓zfew_r, ↓zfew_n, zcat_int, zcat_ref, zcat_null, zret_int, zret_b0, zret_b1, zret_b, Nat.reduceAdd, Nat.reduceSub, Nat.reduceLT, Nat.reduceEqDiff, Nat.reduceBEq, Nat.reduceBNe, true_and, and_true, if_true, if_false, Bool.false_eq_true, Bool.true_eq_false, Bool.or_self, Bool.or_false, Bool.or_true, Bool.false_or, Bool.true_or, zbi_e0, zbi_e1, eq_self, reduceCtorEq, Fin.isValue, zent, List.map_cons, List.map_nil, List.length_cons, List.length_nil, List.replicate, List.cons_append, List.nil_append, List.append_nil, Nat.zero_add, Nat.add_zero, zF_1, zF_2, zA_1, zA_2s, zA_2n, zB_1, zB_2s, zB_2n, not_true_eq_false, not_false_eq_true, Int32.reduceLT, Int32.reduceAdd, Int32.reduceSub, Int32.reduceMul, ne_eq, Int32.reduceToNatClampNeg, zlit_vp, nI_al, nI_la, nI_lm, nI_ml, nI_ltl, nI_llt, nI_eql, nI_lt2, nI_eq2, nI_vp, nI_cl, nI_add, pk_mul, nI_divl, nI_sub2, nI_lsub, nI_ne0l, nI_1, nI_pred, pk_m1, upd_s, upd_n, Nat.lt_irrefl, decide_eq_false_iff_not, decide_eq_true_eq, ite_not, ite_self, Nat.reducePow, Nat.reduceMul, xI_s, xI_o, xI_A, xI_V, xI_n, xI_g, xI_m, xA_I, xA_s, xA_o, xA_V, xA_n, xA_g, xA_m, xB_I, xB_s, xB_o, xB_V, xB_n, xB_g, xB_m, xV_I, xV_A, xV_s, xV_o, xV_n, xV_g, xV_m, xM_I, xM_A, xM_V, xM_n, xM_g, xM_m, xAy_l, xAl_y, xBl_y, xBy_l, xAy_j, xBy_j, xIy_l, xIl_y, xIy_j, xw_I, xw_A, xw_B, xw_V, xyn_y, xlt_nI]
  by_cases c1 : v < lo <;> by_cases c2 : hi < v <;> simp only [c1, c2, if_true, if_false, decide_true, decide_false, not_true_eq_false, not_false_eq_true, Bool.not_true, Bool.not_false, Bool.and_false, Bool.and_true, Bool.and_self, Bool.false_and, Bool.true_and, Bool.or_true, Bool.or_false, Bool.true_or, Bool.false_or, Bool.or_self, Bool.false_eq_true, Bool.true_eq_false, zbi_t, zbi_f, ite_self] at hK ⊢ <;> exact hK
theorem MS_X0_isIn {l : Launch} {E : zEnv} {b0 b : Nat} : zMS l E b0 0 yX0_isIn (ws_ yX0_isIn cX0_isIn 3 (some .boolean)) 0 0 (xlf E b (T_X0_isIn E b)) := by
  refine X_MS (own := 1) (tb := rt1) (Γ := G_X0_isIn E b) rfl (by decide) rt1_ok xΓok_nil ?_ ?_
  · intro as s K hT_
    obtain ⟨v, lo, hi, rfl, hP, hK⟩ := TC_X0_isIn hT_
    refine ⟨by show 3 ≤ 3; decide, fun v hv => ?_⟩
    simp only [List.mem_cons, List.not_mem_nil, or_false] at hv
    rcases hv with rfl | rfl | rfl <;> rfl
  · intro as s K hT_ hKM S hm hc hSM
    obtain ⟨v, lo, hi, rfl, hP, hK⟩ := TC_X0_isIn hT_
    exact B_X0_isIn E b v lo hi s K hP hK hKM S hm hc hSM
def P_X0_held (E : zEnv) (b : Nat) (v : Int32) (lo : Int32) (hi : Int32) (s : zX) : Prop := True
def Q_X0_held (E : zEnv) (b : Nat) (v : Int32) (lo : Int32) (hi : Int32) (s : zX) (K : Option Value → zX → Prop) : Prop := K (some (.int (yheld v lo hi))) (s)
def T_X0_held (E : zEnv) (b : Nat) : zT zX := fun as s K => match as with
  | [.int v, .int lo, .int hi] => P_X0_held E b v lo hi s ∧ Q_X0_held E b v lo hi s K
  | _ => False
theorem TE_X0_held {E : zEnv} {b : Nat} {v : Int32} {lo : Int32} {hi : Int32} {s : zX} {K : Option Value → zX → Prop} : T_X0_held E b [.int v, .int lo, .int hi] s K = ((True) ∧ (K (some (.int (yheld v lo hi))) (s))) := by
  exact rfl
theorem Tm_X0_held {E : zEnv} {b : Nat} : zTm (T_X0_held E b) := by
  intro as s K K' hk h
  unfold T_X0_held at h ⊢
  split at h
  · exact ⟨h.1, hk _ _ (h.2)⟩
  · exact h.elim
theorem TC_X0_held {E : zEnv} {b : Nat} {as : List Value} {s : zX} {K : Option Value → zX → Prop} (h : T_X0_held E b as s K) : ∃ (v : Int32) (lo : Int32) (hi : Int32), as = [.int v, .int lo, .int hi] ∧ P_X0_held E b v lo hi s ∧ Q_X0_held E b v lo hi s K := by
  unfold T_X0_held at h
  split at h
  · exact ⟨_, _, _, rfl, h⟩
  · exact h.elim
abbrev G_X0_held (E : zEnv) (b : Nat) : zΓ zX := [(1, false, 2, T_J1_min (σ := zX)), (7, false, 2, T_J1_max (σ := zX))]
theorem Z_X0_held_0 {σ : Type} {ret : Option FieldType} {hp : Instr → List Value → σ → (List Value → σ → Prop) → Prop} {K : Option Value → σ → Prop} {S : Nat → zL → List Value → σ → Prop} {L : zL} {s : σ} {st : List Value} : zone ret hp K cX0_held S 0 L st s = (zldi L 1 fun v => S 1 L (v :: st) s) := zone_of dX0_held_0 rfl
theorem Z_X0_held_1 {σ : Type} {ret : Option FieldType} {hp : Instr → List Value → σ → (List Value → σ → Prop) → Prop} {K : Option Value → σ → Prop} {S : Nat → zL → List Value → σ → Prop} {L : zL} {s : σ} {st : List Value} : zone ret hp K cX0_held S 1 L st s = (zldi L 2 fun v => S 2 L (v :: st) s) := zone_of dX0_held_1 rfl
theorem Z_X0_held_2 {σ : Type} {ret : Option FieldType} {hp : Instr → List Value → σ → (List Value → σ → Prop) → Prop} {K : Option Value → σ → Prop} {S : Nat → zL → List Value → σ → Prop} {L : zL} {s : σ} {st : List Value} : zone ret hp K cX0_held S 2 L st s = (zldi L 0 fun v => S 3 L (v :: st) s) := zone_of dX0_held_2 rfl
theorem Z_X0_held_3 {σ : Type} {ret : Option FieldType} {hp : Instr → List Value → σ → (List Value → σ → Prop) → Prop} {K : Option Value → σ → Prop} {S : Nat → zL → List Value → σ → Prop} {L : zL} {s : σ} {st : List Value} : zone ret hp K cX0_held S 3 L st s = (hp (.invokestatic 1) st s (fun st' s' => S 6 L st' s')) := zone_of dX0_held_3 rfl
theorem Z_X0_held_6 {σ : Type} {ret : Option FieldType} {hp : Instr → List Value → σ → (List Value → σ → Prop) → Prop} {K : Option Value → σ → Prop} {S : Nat → zL → List Value → σ → Prop} {L : zL} {s : σ} {st : List Value} : zone ret hp K cX0_held S 6 L st s = (hp (.invokestatic 7) st s (fun st' s' => S 9 L st' s')) := zone_of dX0_held_6 rfl
theorem Z_X0_held_9 {σ : Type} {ret : Option FieldType} {hp : Instr → List Value → σ → (List Value → σ → Prop) → Prop} {K : Option Value → σ → Prop} {S : Nat → zL → List Value → σ → Prop} {L : zL} {s : σ} {v : Int32} : zone ret hp K cX0_held S 9 L [.int v] s = (zretI ret v ∧ K (some (.int v)) s) := zone_of dX0_held_9 rfl
theorem CC_X0_held_1 {E : zEnv} {b : Nat} {a0 a1 : Value} {r : List Value} {s : zX} {k : List Value → zX → Prop} : xhp E b rt1 (G_X0_held E b) (.invokestatic 1) (a1 :: a0 :: r) s k = (zfew r 8 = true ∧ T_J1_min (σ := zX) [a0, a1] s (fun v s' => zpush v r (fun q => k q s'))) := xcS rfl rfl
theorem CC_X0_held_7 {E : zEnv} {b : Nat} {a0 a1 : Value} {r : List Value} {s : zX} {k : List Value → zX → Prop} : xhp E b rt1 (G_X0_held E b) (.invokestatic 7) (a1 :: a0 :: r) s k = (zfew r 8 = true ∧ T_J1_max (σ := zX) [a0, a1] s (fun v s' => zpush v r (fun q => k q s'))) := xcS rfl rfl
set_option maxRecDepth 100000 in
set_option maxHeartbeats 4000000 in
theorem B_X0_held (E : zEnv) (b : Nat) (v : Int32) (lo : Int32) (hi : Int32) (s : zX) (K : Option Value → zX → Prop) (hP : True) (hK : K (some (.int (yheld v lo hi))) (s)) (hKM : ∀ v u m, K v (xM u m) = K v u) (S : Nat → zL → List Value → zX → Prop) (hm : zMono (xhp E b rt1 (G_X0_held E b))) (hc : zClosed (some .int) (xhp E b rt1 (G_X0_held E b)) K cX0_held S) (hSM : ∀ pc L st u m, S pc L st (xM u m) = S pc L st u) : S 0 [some (.int v), some (.int lo), some (.int hi)] [] s := by
  unfold yheld at hK
  refine zgo hm hc (fun _ => false) 30 ?_
  simp (config := {decide := true, maxSteps := 1000000}) (disch := first | rfl | with_unfolding_all rfl | omega | assumption | with_unfolding_all assumption | decide) only [↓Z_X0_held_0, ↓Z_X0_held_1, ↓Z_X0_held_2, ↓Z_X0_held_3, ↓Z_X0_held_6, ↓Z_X0_held_9, ↓reduceIte, ↓zrun_stop, ↓zrun_step, ↓zb2_i, ↓zb1_i, ↓zldi_0, ↓zldi_s, ↓zlda_0, ↓zlda_n, ↓zlda_s, ↓zsc_0, ↓zsc_s, ↓zsti_c, ↓zsta_r, ↓zsta_n, ↓zic_0, ↓zic_s, ↓zpush_s, ↓zpush_n, ↓zfew_0, ↓zfew_i, ↓zfew_r, ↓zfew_n, ↓CC_X0_held_1, ↓CC_X0_held_7, ↓TE_J1_min, ↓TE_J1_max, zcat_int, zcat_ref, zcat_null, zret_int, zret_b0, zret_b1, zret_b, Nat.reduceAdd, Nat.reduceSub, Nat.reduceLT, Nat.reduceEqDiff, Nat.reduceBEq, Nat.reduceBNe, true_and, and_true, if_true, if_false, Bool.false_eq_true, Bool.true_eq_false, Bool.or_self, Bool.or_false, Bool.or_true, Bool.false_or, Bool.true_or, zbi_e0, zbi_e1, eq_self, reduceCtorEq, Fin.isValue, zent, List.map_cons, List.map_nil, List.length_cons, List.length_nil, List.replicate, List.cons_append, List.nil_append, List.append_nil, Nat.zero_add, Nat.add_zero, zF_1, zF_2, zA_1, zA_2s, zA_2n, zB_1, zB_2s, zB_2n, not_true_eq_false, not_false_eq_true, Int32.reduceLT, Int32.reduceAdd, Int32.reduceSub, Int32.reduceMul, ne_eq, Int32.reduceToNatClampNeg, zlit_vp, nI_al, nI_la, nI_lm, nI_ml, nI_ltl, nI_llt, nI_eql, nI_lt2, nI_eq2, nI_vp, nI_cl, nI_add, pk_mul, nI_divl, nI_sub2, nI_lsub, nI_ne0l, nI_1, nI_pred, pk_m1, upd_s, upd_n, Nat.lt_irrefl, decide_eq_false_iff_not, decide_eq_true_eq, ite_not, ite_self, Nat.reducePow, Nat.reduceMul, xI_s, xI_o, xI_A, xI_V, xI_n, xI_g, xI_m, xA_I, xA_s, xA_o, xA_V, xA_n, xA_g, xA_m, xB_I, xB_s, xB_o, xB_V, xB_n, xB_g, xB_m, xV_I, xV_A, xV_s, xV_o, xV_n, xV_g, xV_m, xM_I, xM_A, xM_V, xM_n, xM_g, xM_m, xAy_l, xAl_y, xBl_y, xBy_l, xAy_j, xBy_j, xIy_l, xIl_y, xIy_j, xw_I, xw_A, xw_B, xw_V, xyn_y, xlt_nI]
  exact hK
theorem MS_X0_held {l : Launch} {E : zEnv} {b0 b : Nat} : zMS l E b0 1 yX0_held (ws_ yX0_held cX0_held 3 (some .int)) 0 0 (xlf E b (T_X0_held E b)) := by
  refine X_MS (own := 1) (tb := rt1) (Γ := G_X0_held E b) rfl (by decide) rt1_ok (xΓok_cons (IX_J1_min (by decide) q623) (xΓok_cons (IX_J1_max (by decide) q981) xΓok_nil)) ?_ ?_
  · intro as s K hT_
    obtain ⟨v, lo, hi, rfl, hP, hK⟩ := TC_X0_held hT_
    refine ⟨by show 3 ≤ 3; decide, fun v hv => ?_⟩
    simp only [List.mem_cons, List.not_mem_nil, or_false] at hv
    rcases hv with rfl | rfl | rfl <;> rfl
  · intro as s K hT_ hKM S hm hc hSM
    obtain ⟨v, lo, hi, rfl, hP, hK⟩ := TC_X0_held hT_
    exact B_X0_held E b v lo hi s K hP hK hKM S hm hc hSM
def P_X0_has (E : zEnv) (b : Nat) (set : Int32) (k : Int32) (s : zX) : Prop := True
def Q_X0_has (E : zEnv) (b : Nat) (set : Int32) (k : Int32) (s : zX) (K : Option Value → zX → Prop) : Prop := K (some (.int (zbi (ybit set k)))) (s)
def T_X0_has (E : zEnv) (b : Nat) : zT zX := fun as s K => match as with
  | [.int set, .int k] => P_X0_has E b set k s ∧ Q_X0_has E b set k s K
  | _ => False
theorem TE_X0_has {E : zEnv} {b : Nat} {set : Int32} {k : Int32} {s : zX} {K : Option Value → zX → Prop} : T_X0_has E b [.int set, .int k] s K = ((True) ∧ (K (some (.int (zbi (ybit set k)))) (s))) := by
  exact rfl
theorem Tm_X0_has {E : zEnv} {b : Nat} : zTm (T_X0_has E b) := by
  intro as s K K' hk h
  unfold T_X0_has at h ⊢
  split at h
  · exact ⟨h.1, hk _ _ (h.2)⟩
  · exact h.elim
theorem TC_X0_has {E : zEnv} {b : Nat} {as : List Value} {s : zX} {K : Option Value → zX → Prop} (h : T_X0_has E b as s K) : ∃ (set : Int32) (k : Int32), as = [.int set, .int k] ∧ P_X0_has E b set k s ∧ Q_X0_has E b set k s K := by
  unfold T_X0_has at h
  split at h
  · exact ⟨_, _, rfl, h⟩
  · exact h.elim
abbrev G_X0_has (E : zEnv) (b : Nat) : zΓ zX := []
theorem Z_X0_has_0 {σ : Type} {ret : Option FieldType} {hp : Instr → List Value → σ → (List Value → σ → Prop) → Prop} {K : Option Value → σ → Prop} {S : Nat → zL → List Value → σ → Prop} {L : zL} {s : σ} {st : List Value} : zone ret hp K cX0_has S 0 L st s = (zldi L 0 fun v => S 1 L (v :: st) s) := zone_of dX0_has_0 rfl
theorem Z_X0_has_1 {σ : Type} {ret : Option FieldType} {hp : Instr → List Value → σ → (List Value → σ → Prop) → Prop} {K : Option Value → σ → Prop} {S : Nat → zL → List Value → σ → Prop} {L : zL} {s : σ} {st : List Value} : zone ret hp K cX0_has S 1 L st s = (zldi L 1 fun v => S 2 L (v :: st) s) := zone_of dX0_has_1 rfl
theorem Z_X0_has_2 {σ : Type} {ret : Option FieldType} {hp : Instr → List Value → σ → (List Value → σ → Prop) → Prop} {K : Option Value → σ → Prop} {S : Nat → zL → List Value → σ → Prop} {L : zL} {s : σ} {st : List Value} : zone ret hp K cX0_has S 2 L st s = (zb2 st fun x y r => S 3 L (.int (x >>> (y &&& 31)) :: r) s) := zone_of dX0_has_2 rfl
theorem Z_X0_has_3 {σ : Type} {ret : Option FieldType} {hp : Instr → List Value → σ → (List Value → σ → Prop) → Prop} {K : Option Value → σ → Prop} {S : Nat → zL → List Value → σ → Prop} {L : zL} {s : σ} {st : List Value} : zone ret hp K cX0_has S 3 L st s = (S 4 L (.int 1 :: st) s) := zone_iconst dX0_has_3 (by decide)
theorem Z_X0_has_4 {σ : Type} {ret : Option FieldType} {hp : Instr → List Value → σ → (List Value → σ → Prop) → Prop} {K : Option Value → σ → Prop} {S : Nat → zL → List Value → σ → Prop} {L : zL} {s : σ} {st : List Value} : zone ret hp K cX0_has S 4 L st s = (zb2 st fun x y r => S 5 L (.int (x &&& y) :: r) s) := zone_of dX0_has_4 rfl
theorem Z_X0_has_5 {σ : Type} {ret : Option FieldType} {hp : Instr → List Value → σ → (List Value → σ → Prop) → Prop} {K : Option Value → σ → Prop} {S : Nat → zL → List Value → σ → Prop} {L : zL} {s : σ} {st : List Value} : zone ret hp K cX0_has S 5 L st s = (S 6 L (.int 1 :: st) s) := zone_iconst dX0_has_5 (by decide)
theorem Z_X0_has_6 {σ : Type} {ret : Option FieldType} {hp : Instr → List Value → σ → (List Value → σ → Prop) → Prop} {K : Option Value → σ → Prop} {S : Nat → zL → List Value → σ → Prop} {L : zL} {s : σ} {st : List Value} : zone ret hp K cX0_has S 6 L st s = (zb2 st fun x y r => if x = y then S 9 L r s else S 13 L r s) := zone_ic_ne dX0_has_6 (by decide)
theorem Z_X0_has_9 {σ : Type} {ret : Option FieldType} {hp : Instr → List Value → σ → (List Value → σ → Prop) → Prop} {K : Option Value → σ → Prop} {S : Nat → zL → List Value → σ → Prop} {L : zL} {s : σ} {st : List Value} : zone ret hp K cX0_has S 9 L st s = (S 10 L (.int 1 :: st) s) := zone_iconst dX0_has_9 (by decide)
theorem Z_X0_has_10 {σ : Type} {ret : Option FieldType} {hp : Instr → List Value → σ → (List Value → σ → Prop) → Prop} {K : Option Value → σ → Prop} {S : Nat → zL → List Value → σ → Prop} {L : zL} {s : σ} {st : List Value} : zone ret hp K cX0_has S 10 L st s = (S 14 L st s) := zone_goto dX0_has_10 (by decide)
theorem Z_X0_has_13 {σ : Type} {ret : Option FieldType} {hp : Instr → List Value → σ → (List Value → σ → Prop) → Prop} {K : Option Value → σ → Prop} {S : Nat → zL → List Value → σ → Prop} {L : zL} {s : σ} {st : List Value} : zone ret hp K cX0_has S 13 L st s = (S 14 L (.int 0 :: st) s) := zone_iconst dX0_has_13 (by decide)
theorem Z_X0_has_14 {σ : Type} {ret : Option FieldType} {hp : Instr → List Value → σ → (List Value → σ → Prop) → Prop} {K : Option Value → σ → Prop} {S : Nat → zL → List Value → σ → Prop} {L : zL} {s : σ} {v : Int32} : zone ret hp K cX0_has S 14 L [.int v] s = (zretI ret v ∧ K (some (.int v)) s) := zone_of dX0_has_14 rfl
set_option maxRecDepth 100000 in
set_option maxHeartbeats 4000000 in
theorem B_X0_has (E : zEnv) (b : Nat) (set : Int32) (k : Int32) (s : zX) (K : Option Value → zX → Prop) (hP : True) (hK : K (some (.int (zbi (ybit set k)))) (s)) (hKM : ∀ v u m, K v (xM u m) = K v u) (S : Nat → zL → List Value → zX → Prop) (hm : zMono (xhp E b rt1 (G_X0_has E b))) (hc : zClosed (some .boolean) (xhp E b rt1 (G_X0_has E b)) K cX0_has S) (hSM : ∀ pc L st u m, S pc L st (xM u m) = S pc L st u) : S 0 [some (.int set), some (.int k)] [] s := by
  unfold ybit at hK
  refine zgo hm hc (fun _ => false) 30 ?_
  simp (config := {decide := true, maxSteps := 1000000}) (disch := first | rfl | with_unfolding_all rfl | omega | assumption | with_unfolding_all assumption | decide) only [↓Z_X0_has_0, ↓Z_X0_has_1, ↓Z_X0_has_2, ↓Z_X0_has_3, ↓Z_X0_has_4, ↓Z_X0_has_5, ↓Z_X0_has_6, ↓Z_X0_has_9, ↓Z_X0_has_10, ↓Z_X0_has_13, ↓Z_X0_has_14, ↓reduceIte, ↓zrun_stop, ↓zrun_step, ↓zb2_i, ↓zb1_i, ↓zldi_0, ↓zldi_s, ↓zlda_0, ↓zlda_n, ↓zlda_s, ↓zsc_0, ↓zsc_s, ↓zsti_c, ↓zsta_r, ↓zsta_n, ↓zic_0, ↓zic_s, ↓zpush_s, ↓zpush_n, ↓zfew_0, ↓zfew_i, ↓zfew_r, ↓zfew_n, zcat_int, zcat_ref, zcat_null, zret_int, zret_b0, zret_b1, zret_b, Nat.reduceAdd, Nat.reduceSub, Nat.reduceLT, Nat.reduceEqDiff, Nat.reduceBEq, Nat.reduceBNe, true_and, and_true, if_true, if_false, Bool.false_eq_true, Bool.true_eq_false, Bool.or_self, Bool.or_false, Bool.or_true, Bool.false_or, Bool.true_or, zbi_e0, zbi_e1, eq_self, reduceCtorEq, Fin.isValue, zent, List.map_cons, List.map_nil, List.length_cons, List.length_nil, List.replicate, List.cons_append, List.nil_append, List.append_nil, Nat.zero_add, Nat.add_zero, zF_1, zF_2, zA_1, zA_2s, zA_2n, zB_1, zB_2s, zB_2n, not_true_eq_false, not_false_eq_true, Int32.reduceLT, Int32.reduceAdd, Int32.reduceSub, Int32.reduceMul, ne_eq, Int32.reduceToNatClampNeg, zlit_vp, nI_al, nI_la, nI_lm, nI_ml, nI_ltl, nI_llt, nI_eql, nI_lt2, nI_eq2, nI_vp, nI_cl, nI_add, pk_mul, nI_divl, nI_sub2, nI_lsub, nI_ne0l, nI_1, nI_pred, pk_m1, upd_s, upd_n, Nat.lt_irrefl, decide_eq_false_iff_not, decide_eq_true_eq, ite_not, ite_self, Nat.reducePow, Nat.reduceMul, xI_s, xI_o, xI_A, xI_V, xI_n, xI_g, xI_m, xA_I, xA_s, xA_o, xA_V, xA_n, xA_g, xA_m, xB_I, xB_s, xB_o, xB_V, xB_n, xB_g, xB_m, xV_I, xV_A, xV_s, xV_o, xV_n, xV_g, xV_m, xM_I, xM_A, xM_V, xM_n, xM_g, xM_m, xAy_l, xAl_y, xBl_y, xBy_l, xAy_j, xBy_j, xIy_l, xIl_y, xIy_j, xw_I, xw_A, xw_B, xw_V, xyn_y, xlt_nI]
  by_cases c1 : (set >>> (k &&& 31)) &&& 1 = 1 <;> simp only [c1, if_true, if_false, decide_true, decide_false, not_true_eq_false, not_false_eq_true, Bool.not_true, Bool.not_false, Bool.and_false, Bool.and_true, Bool.and_self, Bool.false_and, Bool.true_and, Bool.or_true, Bool.or_false, Bool.true_or, Bool.false_or, Bool.or_self, Bool.false_eq_true, Bool.true_eq_false, zbi_t, zbi_f, ite_self] at hK ⊢ <;> exact hK
theorem MS_X0_has {l : Launch} {E : zEnv} {b0 b : Nat} : zMS l E b0 0 yX0_has (ws_ yX0_has cX0_has 2 (some .boolean)) 0 0 (xlf E b (T_X0_has E b)) := by
  refine X_MS (own := 1) (tb := rt1) (Γ := G_X0_has E b) rfl (by decide) rt1_ok xΓok_nil ?_ ?_
  · intro as s K hT_
    obtain ⟨set, k, rfl, hP, hK⟩ := TC_X0_has hT_
    refine ⟨by show 2 ≤ 2; decide, fun v hv => ?_⟩
    simp only [List.mem_cons, List.not_mem_nil, or_false] at hv
    rcases hv with rfl | rfl <;> rfl
  · intro as s K hT_ hKM S hm hc hSM
    obtain ⟨set, k, rfl, hP, hK⟩ := TC_X0_has hT_
    exact B_X0_has E b set k s K hP hK hKM S hm hc hSM
def P_X0_isLetter (E : zEnv) (b : Nat) (c : Int32) (s : zX) : Prop := True
def Q_X0_isLetter (E : zEnv) (b : Nat) (c : Int32) (s : zX) (K : Option Value → zX → Prop) : Prop := K (some (.int (zbi (yletter c)))) (s)
def T_X0_isLetter (E : zEnv) (b : Nat) : zT zX := fun as s K => match as with
  | [.int c] => P_X0_isLetter E b c s ∧ Q_X0_isLetter E b c s K
  | _ => False
theorem TE_X0_isLetter {E : zEnv} {b : Nat} {c : Int32} {s : zX} {K : Option Value → zX → Prop} : T_X0_isLetter E b [.int c] s K = ((True) ∧ (K (some (.int (zbi (yletter c)))) (s))) := by
  exact rfl
theorem Tm_X0_isLetter {E : zEnv} {b : Nat} : zTm (T_X0_isLetter E b) := by
  intro as s K K' hk h
  unfold T_X0_isLetter at h ⊢
  split at h
  · exact ⟨h.1, hk _ _ (h.2)⟩
  · exact h.elim
theorem TC_X0_isLetter {E : zEnv} {b : Nat} {as : List Value} {s : zX} {K : Option Value → zX → Prop} (h : T_X0_isLetter E b as s K) : ∃ (c : Int32), as = [.int c] ∧ P_X0_isLetter E b c s ∧ Q_X0_isLetter E b c s K := by
  unfold T_X0_isLetter at h
  split at h
  · exact ⟨_, rfl, h⟩
  · exact h.elim
abbrev G_X0_isLetter (E : zEnv) (b : Nat) : zΓ zX := [(237, false, 3, (T_X0_isIn E b))]
theorem Z_X0_isLetter_0 {σ : Type} {ret : Option FieldType} {hp : Instr → List Value → σ → (List Value → σ → Prop) → Prop} {K : Option Value → σ → Prop} {S : Nat → zL → List Value → σ → Prop} {L : zL} {s : σ} {st : List Value} : zone ret hp K cX0_isLetter S 0 L st s = (zldi L 0 fun v => S 1 L (v :: st) s) := zone_of dX0_isLetter_0 rfl
theorem Z_X0_isLetter_1 {σ : Type} {ret : Option FieldType} {hp : Instr → List Value → σ → (List Value → σ → Prop) → Prop} {K : Option Value → σ → Prop} {S : Nat → zL → List Value → σ → Prop} {L : zL} {s : σ} {st : List Value} : zone ret hp K cX0_isLetter S 1 L st s = (S 3 L (.int 97 :: st) s) := zone_bipush dX0_isLetter_1 (by decide)
theorem Z_X0_isLetter_3 {σ : Type} {ret : Option FieldType} {hp : Instr → List Value → σ → (List Value → σ → Prop) → Prop} {K : Option Value → σ → Prop} {S : Nat → zL → List Value → σ → Prop} {L : zL} {s : σ} {st : List Value} : zone ret hp K cX0_isLetter S 3 L st s = (S 5 L (.int 122 :: st) s) := zone_bipush dX0_isLetter_3 (by decide)
theorem Z_X0_isLetter_5 {σ : Type} {ret : Option FieldType} {hp : Instr → List Value → σ → (List Value → σ → Prop) → Prop} {K : Option Value → σ → Prop} {S : Nat → zL → List Value → σ → Prop} {L : zL} {s : σ} {st : List Value} : zone ret hp K cX0_isLetter S 5 L st s = (hp (.invokestatic 237) st s (fun st' s' => S 8 L st' s')) := zone_of dX0_isLetter_5 rfl
theorem Z_X0_isLetter_8 {σ : Type} {ret : Option FieldType} {hp : Instr → List Value → σ → (List Value → σ → Prop) → Prop} {K : Option Value → σ → Prop} {S : Nat → zL → List Value → σ → Prop} {L : zL} {s : σ} {st : List Value} : zone ret hp K cX0_isLetter S 8 L st s = (zb1 st fun x r => if x = 0 then S 11 L r s else S 22 L r s) := zone_if_ne dX0_isLetter_8 (by decide)
theorem Z_X0_isLetter_11 {σ : Type} {ret : Option FieldType} {hp : Instr → List Value → σ → (List Value → σ → Prop) → Prop} {K : Option Value → σ → Prop} {S : Nat → zL → List Value → σ → Prop} {L : zL} {s : σ} {st : List Value} : zone ret hp K cX0_isLetter S 11 L st s = (zldi L 0 fun v => S 12 L (v :: st) s) := zone_of dX0_isLetter_11 rfl
theorem Z_X0_isLetter_12 {σ : Type} {ret : Option FieldType} {hp : Instr → List Value → σ → (List Value → σ → Prop) → Prop} {K : Option Value → σ → Prop} {S : Nat → zL → List Value → σ → Prop} {L : zL} {s : σ} {st : List Value} : zone ret hp K cX0_isLetter S 12 L st s = (S 14 L (.int 65 :: st) s) := zone_bipush dX0_isLetter_12 (by decide)
theorem Z_X0_isLetter_14 {σ : Type} {ret : Option FieldType} {hp : Instr → List Value → σ → (List Value → σ → Prop) → Prop} {K : Option Value → σ → Prop} {S : Nat → zL → List Value → σ → Prop} {L : zL} {s : σ} {st : List Value} : zone ret hp K cX0_isLetter S 14 L st s = (S 16 L (.int 90 :: st) s) := zone_bipush dX0_isLetter_14 (by decide)
theorem Z_X0_isLetter_16 {σ : Type} {ret : Option FieldType} {hp : Instr → List Value → σ → (List Value → σ → Prop) → Prop} {K : Option Value → σ → Prop} {S : Nat → zL → List Value → σ → Prop} {L : zL} {s : σ} {st : List Value} : zone ret hp K cX0_isLetter S 16 L st s = (hp (.invokestatic 237) st s (fun st' s' => S 19 L st' s')) := zone_of dX0_isLetter_16 rfl
theorem Z_X0_isLetter_19 {σ : Type} {ret : Option FieldType} {hp : Instr → List Value → σ → (List Value → σ → Prop) → Prop} {K : Option Value → σ → Prop} {S : Nat → zL → List Value → σ → Prop} {L : zL} {s : σ} {st : List Value} : zone ret hp K cX0_isLetter S 19 L st s = (zb1 st fun x r => if x = 0 then S 26 L r s else S 22 L r s) := zone_if_eq dX0_isLetter_19 (by decide)
theorem Z_X0_isLetter_22 {σ : Type} {ret : Option FieldType} {hp : Instr → List Value → σ → (List Value → σ → Prop) → Prop} {K : Option Value → σ → Prop} {S : Nat → zL → List Value → σ → Prop} {L : zL} {s : σ} {st : List Value} : zone ret hp K cX0_isLetter S 22 L st s = (S 23 L (.int 1 :: st) s) := zone_iconst dX0_isLetter_22 (by decide)
theorem Z_X0_isLetter_23 {σ : Type} {ret : Option FieldType} {hp : Instr → List Value → σ → (List Value → σ → Prop) → Prop} {K : Option Value → σ → Prop} {S : Nat → zL → List Value → σ → Prop} {L : zL} {s : σ} {st : List Value} : zone ret hp K cX0_isLetter S 23 L st s = (S 27 L st s) := zone_goto dX0_isLetter_23 (by decide)
theorem Z_X0_isLetter_26 {σ : Type} {ret : Option FieldType} {hp : Instr → List Value → σ → (List Value → σ → Prop) → Prop} {K : Option Value → σ → Prop} {S : Nat → zL → List Value → σ → Prop} {L : zL} {s : σ} {st : List Value} : zone ret hp K cX0_isLetter S 26 L st s = (S 27 L (.int 0 :: st) s) := zone_iconst dX0_isLetter_26 (by decide)
theorem Z_X0_isLetter_27 {σ : Type} {ret : Option FieldType} {hp : Instr → List Value → σ → (List Value → σ → Prop) → Prop} {K : Option Value → σ → Prop} {S : Nat → zL → List Value → σ → Prop} {L : zL} {s : σ} {v : Int32} : zone ret hp K cX0_isLetter S 27 L [.int v] s = (zretI ret v ∧ K (some (.int v)) s) := zone_of dX0_isLetter_27 rfl
theorem CC_X0_isLetter_237 {E : zEnv} {b : Nat} {a0 a1 a2 : Value} {r : List Value} {s : zX} {k : List Value → zX → Prop} : xhp E b rt1 (G_X0_isLetter E b) (.invokestatic 237) (a2 :: a1 :: a0 :: r) s k = (zfew r 8 = true ∧ (T_X0_isIn E b) [a0, a1, a2] s (fun v s' => zpush v r (fun q => k q s'))) := xcS rfl rfl
set_option maxRecDepth 100000 in
set_option maxHeartbeats 4000000 in
theorem B_X0_isLetter (E : zEnv) (b : Nat) (c : Int32) (s : zX) (K : Option Value → zX → Prop) (hP : True) (hK : K (some (.int (zbi (yletter c)))) (s)) (hKM : ∀ v u m, K v (xM u m) = K v u) (S : Nat → zL → List Value → zX → Prop) (hm : zMono (xhp E b rt1 (G_X0_isLetter E b))) (hc : zClosed (some .boolean) (xhp E b rt1 (G_X0_isLetter E b)) K cX0_isLetter S) (hSM : ∀ pc L st u m, S pc L st (xM u m) = S pc L st u) : S 0 [some (.int c)] [] s := by
  unfold yletter at hK
  cases c1 : yin c 97 122 <;> cases c2 : yin c 65 90 <;> rw [c1, c2] at hK
  all_goals (
    refine zgo hm hc (fun _ => false) 30 ?_
    simp (config := {decide := true, maxSteps := 1000000}) (disch := first | rfl | with_unfolding_all rfl | omega | assumption | with_unfolding_all assumption | decide) only [↓Z_X0_isLetter_0, ↓Z_X0_isLetter_1, ↓Z_X0_isLetter_3, ↓Z_X0_isLetter_5, ↓Z_X0_isLetter_8, ↓Z_X0_isLetter_11, ↓Z_X0_isLetter_12, ↓Z_X0_isLetter_14, ↓Z_X0_isLetter_16, ↓Z_X0_isLetter_19, ↓Z_X0_isLetter_22, ↓Z_X0_isLetter_23, ↓Z_X0_isLetter_26, ↓Z_X0_isLetter_27, ↓reduceIte, ↓zrun_stop, ↓zrun_step, ↓zb2_i, ↓zb1_i, ↓zldi_0, ↓zldi_s, ↓zlda_0, ↓zlda_n, ↓zlda_s, ↓zsc_0, ↓zsc_s, ↓zsti_c, ↓zsta_r, ↓zsta_n, ↓zic_0, ↓zic_s, ↓zpush_s, ↓zpush_n, ↓zfew_0, ↓zfew_i, ↓zfew_r, ↓zfew_n, ↓CC_X0_isLetter_237, ↓TE_X0_isIn, zcat_int, zcat_ref, zcat_null, zret_int, zret_b0, zret_b1, zret_b, Nat.reduceAdd, Nat.reduceSub, Nat.reduceLT, Nat.reduceEqDiff, Nat.reduceBEq, Nat.reduceBNe, true_and, and_true, if_true, if_false, Bool.false_eq_true, Bool.true_eq_false, Bool.or_self, Bool.or_false, Bool.or_true, Bool.false_or, Bool.true_or, zbi_e0, zbi_e1, eq_self, reduceCtorEq, Fin.isValue, zent, List.map_cons, List.map_nil, List.length_cons, List.length_nil, List.replicate, List.cons_append, List.nil_append, List.append_nil, Nat.zero_add, Nat.add_zero, zF_1, zF_2, zA_1, zA_2s, zA_2n, zB_1, zB_2s, zB_2n, not_true_eq_false, not_false_eq_true, Int32.reduceLT, Int32.reduceAdd, Int32.reduceSub, Int32.reduceMul, ne_eq, Int32.reduceToNatClampNeg, zlit_vp, nI_al, nI_la, nI_lm, nI_ml, nI_ltl, nI_llt, nI_eql, nI_lt2, nI_eq2, nI_vp, nI_cl, nI_add, pk_mul, nI_divl, nI_sub2, nI_lsub, nI_ne0l, nI_1, nI_pred, pk_m1, upd_s, upd_n, Nat.lt_irrefl, decide_eq_false_iff_not, decide_eq_true_eq, ite_not, ite_self, Nat.reducePow, Nat.reduceMul, xI_s, xI_o, xI_A, xI_V, xI_n, xI_g, xI_m, xA_I, xA_s, xA_o, xA_V, xA_n, xA_g, xA_m, xB_I, xB_s, xB_o, xB_V, xB_n, xB_g, xB_m, xV_I, xV_A, xV_s, xV_o, xV_n, xV_g, xV_m, xM_I, xM_A, xM_V, xM_n, xM_g, xM_m, xAy_l, xAl_y, xBl_y, xBy_l, xAy_j, xBy_j, xIy_l, xIl_y, xIy_j, xw_I, xw_A, xw_B, xw_V, xyn_y, xlt_nI, c1, c2, zbi_t, zbi_f]
    simpa [zbi] using hK)
theorem MS_X0_isLetter {l : Launch} {E : zEnv} {b0 b : Nat} : zMS l E b0 1 yX0_isLetter (ws_ yX0_isLetter cX0_isLetter 1 (some .boolean)) 0 0 (xlf E b (T_X0_isLetter E b)) := by
  refine X_MS (own := 1) (tb := rt1) (Γ := G_X0_isLetter E b) rfl (by decide) rt1_ok (xΓok_cons (xinv.S (n := 3) MS_X0_isIn Tm_X0_isIn (by decide) (by decide) (lw_S q530 q531 q154 q532) (by decide +kernel)) xΓok_nil) ?_ ?_
  · intro as s K hT_
    obtain ⟨c, rfl, hP, hK⟩ := TC_X0_isLetter hT_
    refine ⟨by show 1 ≤ 1; decide, fun v hv => ?_⟩
    simp only [List.mem_cons, List.not_mem_nil, or_false] at hv
    rcases hv with rfl <;> rfl
  · intro as s K hT_ hKM S hm hc hSM
    obtain ⟨c, rfl, hP, hK⟩ := TC_X0_isLetter hT_
    exact B_X0_isLetter E b c s K hP hK hKM S hm hc hSM
def P_X0_isDigit (E : zEnv) (b : Nat) (c : Int32) (s : zX) : Prop := True
def Q_X0_isDigit (E : zEnv) (b : Nat) (c : Int32) (s : zX) (K : Option Value → zX → Prop) : Prop := K (some (.int (zbi (ydigit c)))) (s)
def T_X0_isDigit (E : zEnv) (b : Nat) : zT zX := fun as s K => match as with
  | [.int c] => P_X0_isDigit E b c s ∧ Q_X0_isDigit E b c s K
  | _ => False
theorem TE_X0_isDigit {E : zEnv} {b : Nat} {c : Int32} {s : zX} {K : Option Value → zX → Prop} : T_X0_isDigit E b [.int c] s K = ((True) ∧ (K (some (.int (zbi (ydigit c)))) (s))) := by
  exact rfl
theorem Tm_X0_isDigit {E : zEnv} {b : Nat} : zTm (T_X0_isDigit E b) := by
  intro as s K K' hk h
  unfold T_X0_isDigit at h ⊢
  split at h
  · exact ⟨h.1, hk _ _ (h.2)⟩
  · exact h.elim
theorem TC_X0_isDigit {E : zEnv} {b : Nat} {as : List Value} {s : zX} {K : Option Value → zX → Prop} (h : T_X0_isDigit E b as s K) : ∃ (c : Int32), as = [.int c] ∧ P_X0_isDigit E b c s ∧ Q_X0_isDigit E b c s K := by
  unfold T_X0_isDigit at h
  split at h
  · exact ⟨_, rfl, h⟩
  · exact h.elim
abbrev G_X0_isDigit (E : zEnv) (b : Nat) : zΓ zX := [(237, false, 3, (T_X0_isIn E b))]
theorem Z_X0_isDigit_0 {σ : Type} {ret : Option FieldType} {hp : Instr → List Value → σ → (List Value → σ → Prop) → Prop} {K : Option Value → σ → Prop} {S : Nat → zL → List Value → σ → Prop} {L : zL} {s : σ} {st : List Value} : zone ret hp K cX0_isDigit S 0 L st s = (zldi L 0 fun v => S 1 L (v :: st) s) := zone_of dX0_isDigit_0 rfl
theorem Z_X0_isDigit_1 {σ : Type} {ret : Option FieldType} {hp : Instr → List Value → σ → (List Value → σ → Prop) → Prop} {K : Option Value → σ → Prop} {S : Nat → zL → List Value → σ → Prop} {L : zL} {s : σ} {st : List Value} : zone ret hp K cX0_isDigit S 1 L st s = (S 3 L (.int 48 :: st) s) := zone_bipush dX0_isDigit_1 (by decide)
theorem Z_X0_isDigit_3 {σ : Type} {ret : Option FieldType} {hp : Instr → List Value → σ → (List Value → σ → Prop) → Prop} {K : Option Value → σ → Prop} {S : Nat → zL → List Value → σ → Prop} {L : zL} {s : σ} {st : List Value} : zone ret hp K cX0_isDigit S 3 L st s = (S 5 L (.int 57 :: st) s) := zone_bipush dX0_isDigit_3 (by decide)
theorem Z_X0_isDigit_5 {σ : Type} {ret : Option FieldType} {hp : Instr → List Value → σ → (List Value → σ → Prop) → Prop} {K : Option Value → σ → Prop} {S : Nat → zL → List Value → σ → Prop} {L : zL} {s : σ} {st : List Value} : zone ret hp K cX0_isDigit S 5 L st s = (hp (.invokestatic 237) st s (fun st' s' => S 8 L st' s')) := zone_of dX0_isDigit_5 rfl
theorem Z_X0_isDigit_8 {σ : Type} {ret : Option FieldType} {hp : Instr → List Value → σ → (List Value → σ → Prop) → Prop} {K : Option Value → σ → Prop} {S : Nat → zL → List Value → σ → Prop} {L : zL} {s : σ} {v : Int32} : zone ret hp K cX0_isDigit S 8 L [.int v] s = (zretI ret v ∧ K (some (.int v)) s) := zone_of dX0_isDigit_8 rfl
theorem CC_X0_isDigit_237 {E : zEnv} {b : Nat} {a0 a1 a2 : Value} {r : List Value} {s : zX} {k : List Value → zX → Prop} : xhp E b rt1 (G_X0_isDigit E b) (.invokestatic 237) (a2 :: a1 :: a0 :: r) s k = (zfew r 8 = true ∧ (T_X0_isIn E b) [a0, a1, a2] s (fun v s' => zpush v r (fun q => k q s'))) := xcS rfl rfl
set_option maxRecDepth 100000 in
set_option maxHeartbeats 4000000 in
theorem B_X0_isDigit (E : zEnv) (b : Nat) (c : Int32) (s : zX) (K : Option Value → zX → Prop) (hP : True) (hK : K (some (.int (zbi (ydigit c)))) (s)) (hKM : ∀ v u m, K v (xM u m) = K v u) (S : Nat → zL → List Value → zX → Prop) (hm : zMono (xhp E b rt1 (G_X0_isDigit E b))) (hc : zClosed (some .boolean) (xhp E b rt1 (G_X0_isDigit E b)) K cX0_isDigit S) (hSM : ∀ pc L st u m, S pc L st (xM u m) = S pc L st u) : S 0 [some (.int c)] [] s := by
  unfold ydigit at hK
  refine zgo hm hc (fun _ => false) 30 ?_
  simp (config := {decide := true, maxSteps := 1000000}) (disch := first | rfl | with_unfolding_all rfl | omega | assumption | with_unfolding_all assumption | decide) only [↓Z_X0_isDigit_0, ↓Z_X0_isDigit_1, ↓Z_X0_isDigit_3, ↓Z_X0_isDigit_5, ↓Z_X0_isDigit_8, ↓reduceIte, ↓zrun_stop, ↓zrun_step, ↓zb2_i, ↓zb1_i, ↓zldi_0, ↓zldi_s, ↓zlda_0, ↓zlda_n, ↓zlda_s, ↓zsc_0, ↓zsc_s, ↓zsti_c, ↓zsta_r, ↓zsta_n, ↓zic_0, ↓zic_s, ↓zpush_s, ↓zpush_n, ↓zfew_0, ↓zfew_i, ↓zfew_r, ↓zfew_n, ↓CC_X0_isDigit_237, ↓TE_X0_isIn, zcat_int, zcat_ref, zcat_null, zret_int, zret_b0, zret_b1, zret_b, Nat.reduceAdd, Nat.reduceSub, Nat.reduceLT, Nat.reduceEqDiff, Nat.reduceBEq, Nat.reduceBNe, true_and, and_true, if_true, if_false, Bool.false_eq_true, Bool.true_eq_false, Bool.or_self, Bool.or_false, Bool.or_true, Bool.false_or, Bool.true_or, zbi_e0, zbi_e1, eq_self, reduceCtorEq, Fin.isValue, zent, List.map_cons, List.map_nil, List.length_cons, List.length_nil, List.replicate, List.cons_append, List.nil_append, List.append_nil, Nat.zero_add, Nat.add_zero, zF_1, zF_2, zA_1, zA_2s, zA_2n, zB_1, zB_2s, zB_2n, not_true_eq_false, not_false_eq_true, Int32.reduceLT, Int32.reduceAdd, Int32.reduceSub, Int32.reduceMul, ne_eq, Int32.reduceToNatClampNeg, zlit_vp, nI_al, nI_la, nI_lm, nI_ml, nI_ltl, nI_llt, nI_eql, nI_lt2, nI_eq2, nI_vp, nI_cl, nI_add, pk_mul, nI_divl, nI_sub2, nI_lsub, nI_ne0l, nI_1, nI_pred, pk_m1, upd_s, upd_n, Nat.lt_irrefl, decide_eq_false_iff_not, decide_eq_true_eq, ite_not, ite_self, Nat.reducePow, Nat.reduceMul, xI_s, xI_o, xI_A, xI_V, xI_n, xI_g, xI_m, xA_I, xA_s, xA_o, xA_V, xA_n, xA_g, xA_m, xB_I, xB_s, xB_o, xB_V, xB_n, xB_g, xB_m, xV_I, xV_A, xV_s, xV_o, xV_n, xV_g, xV_m, xM_I, xM_A, xM_V, xM_n, xM_g, xM_m, xAy_l, xAl_y, xBl_y, xBy_l, xAy_j, xBy_j, xIy_l, xIl_y, xIy_j, xw_I, xw_A, xw_B, xw_V, xyn_y, xlt_nI]
  exact hK
theorem MS_X0_isDigit {l : Launch} {E : zEnv} {b0 b : Nat} : zMS l E b0 1 yX0_isDigit (ws_ yX0_isDigit cX0_isDigit 1 (some .boolean)) 0 0 (xlf E b (T_X0_isDigit E b)) := by
  refine X_MS (own := 1) (tb := rt1) (Γ := G_X0_isDigit E b) rfl (by decide) rt1_ok (xΓok_cons (xinv.S (n := 3) MS_X0_isIn Tm_X0_isIn (by decide) (by decide) (lw_S q530 q531 q154 q532) (by decide +kernel)) xΓok_nil) ?_ ?_
  · intro as s K hT_
    obtain ⟨c, rfl, hP, hK⟩ := TC_X0_isDigit hT_
    refine ⟨by show 1 ≤ 1; decide, fun v hv => ?_⟩
    simp only [List.mem_cons, List.not_mem_nil, or_false] at hv
    rcases hv with rfl <;> rfl
  · intro as s K hT_ hKM S hm hc hSM
    obtain ⟨c, rfl, hP, hK⟩ := TC_X0_isDigit hT_
    exact B_X0_isDigit E b c s K hP hK hKM S hm hc hSM
def P_X0_isBranch (E : zEnv) (b : Nat) (c : Int32) (s : zX) : Prop := True
def Q_X0_isBranch (E : zEnv) (b : Nat) (c : Int32) (s : zX) (K : Option Value → zX → Prop) : Prop := K (some (.int (zbi (yin c 0 3)))) (s)
def T_X0_isBranch (E : zEnv) (b : Nat) : zT zX := fun as s K => match as with
  | [.int c] => P_X0_isBranch E b c s ∧ Q_X0_isBranch E b c s K
  | _ => False
theorem TE_X0_isBranch {E : zEnv} {b : Nat} {c : Int32} {s : zX} {K : Option Value → zX → Prop} : T_X0_isBranch E b [.int c] s K = ((True) ∧ (K (some (.int (zbi (yin c 0 3)))) (s))) := by
  exact rfl
theorem Tm_X0_isBranch {E : zEnv} {b : Nat} : zTm (T_X0_isBranch E b) := by
  intro as s K K' hk h
  unfold T_X0_isBranch at h ⊢
  split at h
  · exact ⟨h.1, hk _ _ (h.2)⟩
  · exact h.elim
theorem TC_X0_isBranch {E : zEnv} {b : Nat} {as : List Value} {s : zX} {K : Option Value → zX → Prop} (h : T_X0_isBranch E b as s K) : ∃ (c : Int32), as = [.int c] ∧ P_X0_isBranch E b c s ∧ Q_X0_isBranch E b c s K := by
  unfold T_X0_isBranch at h
  split at h
  · exact ⟨_, rfl, h⟩
  · exact h.elim
abbrev G_X0_isBranch (E : zEnv) (b : Nat) : zΓ zX := [(237, false, 3, (T_X0_isIn E b))]
theorem Z_X0_isBranch_0 {σ : Type} {ret : Option FieldType} {hp : Instr → List Value → σ → (List Value → σ → Prop) → Prop} {K : Option Value → σ → Prop} {S : Nat → zL → List Value → σ → Prop} {L : zL} {s : σ} {st : List Value} : zone ret hp K cX0_isBranch S 0 L st s = (zldi L 0 fun v => S 1 L (v :: st) s) := zone_of dX0_isBranch_0 rfl
theorem Z_X0_isBranch_1 {σ : Type} {ret : Option FieldType} {hp : Instr → List Value → σ → (List Value → σ → Prop) → Prop} {K : Option Value → σ → Prop} {S : Nat → zL → List Value → σ → Prop} {L : zL} {s : σ} {st : List Value} : zone ret hp K cX0_isBranch S 1 L st s = (S 2 L (.int 0 :: st) s) := zone_iconst dX0_isBranch_1 (by decide)
theorem Z_X0_isBranch_2 {σ : Type} {ret : Option FieldType} {hp : Instr → List Value → σ → (List Value → σ → Prop) → Prop} {K : Option Value → σ → Prop} {S : Nat → zL → List Value → σ → Prop} {L : zL} {s : σ} {st : List Value} : zone ret hp K cX0_isBranch S 2 L st s = (S 3 L (.int 3 :: st) s) := zone_iconst dX0_isBranch_2 (by decide)
theorem Z_X0_isBranch_3 {σ : Type} {ret : Option FieldType} {hp : Instr → List Value → σ → (List Value → σ → Prop) → Prop} {K : Option Value → σ → Prop} {S : Nat → zL → List Value → σ → Prop} {L : zL} {s : σ} {st : List Value} : zone ret hp K cX0_isBranch S 3 L st s = (hp (.invokestatic 237) st s (fun st' s' => S 6 L st' s')) := zone_of dX0_isBranch_3 rfl
theorem Z_X0_isBranch_6 {σ : Type} {ret : Option FieldType} {hp : Instr → List Value → σ → (List Value → σ → Prop) → Prop} {K : Option Value → σ → Prop} {S : Nat → zL → List Value → σ → Prop} {L : zL} {s : σ} {v : Int32} : zone ret hp K cX0_isBranch S 6 L [.int v] s = (zretI ret v ∧ K (some (.int v)) s) := zone_of dX0_isBranch_6 rfl
theorem CC_X0_isBranch_237 {E : zEnv} {b : Nat} {a0 a1 a2 : Value} {r : List Value} {s : zX} {k : List Value → zX → Prop} : xhp E b rt1 (G_X0_isBranch E b) (.invokestatic 237) (a2 :: a1 :: a0 :: r) s k = (zfew r 8 = true ∧ (T_X0_isIn E b) [a0, a1, a2] s (fun v s' => zpush v r (fun q => k q s'))) := xcS rfl rfl
set_option maxRecDepth 100000 in
set_option maxHeartbeats 4000000 in
theorem B_X0_isBranch (E : zEnv) (b : Nat) (c : Int32) (s : zX) (K : Option Value → zX → Prop) (hP : True) (hK : K (some (.int (zbi (yin c 0 3)))) (s)) (hKM : ∀ v u m, K v (xM u m) = K v u) (S : Nat → zL → List Value → zX → Prop) (hm : zMono (xhp E b rt1 (G_X0_isBranch E b))) (hc : zClosed (some .boolean) (xhp E b rt1 (G_X0_isBranch E b)) K cX0_isBranch S) (hSM : ∀ pc L st u m, S pc L st (xM u m) = S pc L st u) : S 0 [some (.int c)] [] s := by
  refine zgo hm hc (fun _ => false) 30 ?_
  simp (config := {decide := true, maxSteps := 1000000}) (disch := first | rfl | with_unfolding_all rfl | omega | assumption | with_unfolding_all assumption | decide) only [↓Z_X0_isBranch_0, ↓Z_X0_isBranch_1, ↓Z_X0_isBranch_2, ↓Z_X0_isBranch_3, ↓Z_X0_isBranch_6, ↓reduceIte, ↓zrun_stop, ↓zrun_step, ↓zb2_i, ↓zb1_i, ↓zldi_0, ↓zldi_s, ↓zlda_0, ↓zlda_n, ↓zlda_s, ↓zsc_0, ↓zsc_s, ↓zsti_c, ↓zsta_r, ↓zsta_n, ↓zic_0, ↓zic_s, ↓zpush_s, ↓zpush_n, ↓zfew_0, ↓zfew_i, ↓zfew_r, ↓zfew_n, ↓CC_X0_isBranch_237, ↓TE_X0_isIn, zcat_int, zcat_ref, zcat_null, zret_int, zret_b0, zret_b1, zret_b, Nat.reduceAdd, Nat.reduceSub, Nat.reduceLT, Nat.reduceEqDiff, Nat.reduceBEq, Nat.reduceBNe, true_and, and_true, if_true, if_false, Bool.false_eq_true, Bool.true_eq_false, Bool.or_self, Bool.or_false, Bool.or_true, Bool.false_or, Bool.true_or, zbi_e0, zbi_e1, eq_self, reduceCtorEq, Fin.isValue, zent, List.map_cons, List.map_nil, List.length_cons, List.length_nil, List.replicate, List.cons_append, List.nil_append, List.append_nil, Nat.zero_add, Nat.add_zero, zF_1, zF_2, zA_1, zA_2s, zA_2n, zB_1, zB_2s, zB_2n, not_true_eq_false, not_false_eq_true, Int32.reduceLT, Int32.reduceAdd, Int32.reduceSub, Int32.reduceMul, ne_eq, Int32.reduceToNatClampNeg, zlit_vp, nI_al, nI_la, nI_lm, nI_ml, nI_ltl, nI_llt, nI_eql, nI_lt2, nI_eq2, nI_vp, nI_cl, nI_add, pk_mul, nI_divl, nI_sub2, nI_lsub, nI_ne0l, nI_1, nI_pred, pk_m1, upd_s, upd_n, Nat.lt_irrefl, decide_eq_false_iff_not, decide_eq_true_eq, ite_not, ite_self, Nat.reducePow, Nat.reduceMul, xI_s, xI_o, xI_A, xI_V, xI_n, xI_g, xI_m, xA_I, xA_s, xA_o, xA_V, xA_n, xA_g, xA_m, xB_I, xB_s, xB_o, xB_V, xB_n, xB_g, xB_m, xV_I, xV_A, xV_s, xV_o, xV_n, xV_g, xV_m, xM_I, xM_A, xM_V, xM_n, xM_g, xM_m, xAy_l, xAl_y, xBl_y, xBy_l, xAy_j, xBy_j, xIy_l, xIl_y, xIy_j, xw_I, xw_A, xw_B, xw_V, xyn_y, xlt_nI]
  exact hK
theorem MS_X0_isBranch {l : Launch} {E : zEnv} {b0 b : Nat} : zMS l E b0 1 yX0_isBranch (ws_ yX0_isBranch cX0_isBranch 1 (some .boolean)) 0 0 (xlf E b (T_X0_isBranch E b)) := by
  refine X_MS (own := 1) (tb := rt1) (Γ := G_X0_isBranch E b) rfl (by decide) rt1_ok (xΓok_cons (xinv.S (n := 3) MS_X0_isIn Tm_X0_isIn (by decide) (by decide) (lw_S q530 q531 q154 q532) (by decide +kernel)) xΓok_nil) ?_ ?_
  · intro as s K hT_
    obtain ⟨c, rfl, hP, hK⟩ := TC_X0_isBranch hT_
    refine ⟨by show 1 ≤ 1; decide, fun v hv => ?_⟩
    simp only [List.mem_cons, List.not_mem_nil, or_false] at hv
    rcases hv with rfl <;> rfl
  · intro as s K hT_ hKM S hm hc hSM
    obtain ⟨c, rfl, hP, hK⟩ := TC_X0_isBranch hT_
    exact B_X0_isBranch E b c s K hP hK hKM S hm hc hSM
def P_X0_isKind (E : zEnv) (b : Nat) (c : Int32) (s : zX) : Prop := True
def Q_X0_isKind (E : zEnv) (b : Nat) (c : Int32) (s : zX) (K : Option Value → zX → Prop) : Prop := K (some (.int (zbi (yin c 0 3)))) (s)
def T_X0_isKind (E : zEnv) (b : Nat) : zT zX := fun as s K => match as with
  | [.int c] => P_X0_isKind E b c s ∧ Q_X0_isKind E b c s K
  | _ => False
theorem TE_X0_isKind {E : zEnv} {b : Nat} {c : Int32} {s : zX} {K : Option Value → zX → Prop} : T_X0_isKind E b [.int c] s K = ((True) ∧ (K (some (.int (zbi (yin c 0 3)))) (s))) := by
  exact rfl
theorem Tm_X0_isKind {E : zEnv} {b : Nat} : zTm (T_X0_isKind E b) := by
  intro as s K K' hk h
  unfold T_X0_isKind at h ⊢
  split at h
  · exact ⟨h.1, hk _ _ (h.2)⟩
  · exact h.elim
theorem TC_X0_isKind {E : zEnv} {b : Nat} {as : List Value} {s : zX} {K : Option Value → zX → Prop} (h : T_X0_isKind E b as s K) : ∃ (c : Int32), as = [.int c] ∧ P_X0_isKind E b c s ∧ Q_X0_isKind E b c s K := by
  unfold T_X0_isKind at h
  split at h
  · exact ⟨_, rfl, h⟩
  · exact h.elim
abbrev G_X0_isKind (E : zEnv) (b : Nat) : zΓ zX := [(237, false, 3, (T_X0_isIn E b))]
theorem Z_X0_isKind_0 {σ : Type} {ret : Option FieldType} {hp : Instr → List Value → σ → (List Value → σ → Prop) → Prop} {K : Option Value → σ → Prop} {S : Nat → zL → List Value → σ → Prop} {L : zL} {s : σ} {st : List Value} : zone ret hp K cX0_isKind S 0 L st s = (zldi L 0 fun v => S 1 L (v :: st) s) := zone_of dX0_isKind_0 rfl
theorem Z_X0_isKind_1 {σ : Type} {ret : Option FieldType} {hp : Instr → List Value → σ → (List Value → σ → Prop) → Prop} {K : Option Value → σ → Prop} {S : Nat → zL → List Value → σ → Prop} {L : zL} {s : σ} {st : List Value} : zone ret hp K cX0_isKind S 1 L st s = (S 2 L (.int 0 :: st) s) := zone_iconst dX0_isKind_1 (by decide)
theorem Z_X0_isKind_2 {σ : Type} {ret : Option FieldType} {hp : Instr → List Value → σ → (List Value → σ → Prop) → Prop} {K : Option Value → σ → Prop} {S : Nat → zL → List Value → σ → Prop} {L : zL} {s : σ} {st : List Value} : zone ret hp K cX0_isKind S 2 L st s = (S 3 L (.int 3 :: st) s) := zone_iconst dX0_isKind_2 (by decide)
theorem Z_X0_isKind_3 {σ : Type} {ret : Option FieldType} {hp : Instr → List Value → σ → (List Value → σ → Prop) → Prop} {K : Option Value → σ → Prop} {S : Nat → zL → List Value → σ → Prop} {L : zL} {s : σ} {st : List Value} : zone ret hp K cX0_isKind S 3 L st s = (hp (.invokestatic 237) st s (fun st' s' => S 6 L st' s')) := zone_of dX0_isKind_3 rfl
theorem Z_X0_isKind_6 {σ : Type} {ret : Option FieldType} {hp : Instr → List Value → σ → (List Value → σ → Prop) → Prop} {K : Option Value → σ → Prop} {S : Nat → zL → List Value → σ → Prop} {L : zL} {s : σ} {v : Int32} : zone ret hp K cX0_isKind S 6 L [.int v] s = (zretI ret v ∧ K (some (.int v)) s) := zone_of dX0_isKind_6 rfl
theorem CC_X0_isKind_237 {E : zEnv} {b : Nat} {a0 a1 a2 : Value} {r : List Value} {s : zX} {k : List Value → zX → Prop} : xhp E b rt1 (G_X0_isKind E b) (.invokestatic 237) (a2 :: a1 :: a0 :: r) s k = (zfew r 8 = true ∧ (T_X0_isIn E b) [a0, a1, a2] s (fun v s' => zpush v r (fun q => k q s'))) := xcS rfl rfl
set_option maxRecDepth 100000 in
set_option maxHeartbeats 4000000 in
theorem B_X0_isKind (E : zEnv) (b : Nat) (c : Int32) (s : zX) (K : Option Value → zX → Prop) (hP : True) (hK : K (some (.int (zbi (yin c 0 3)))) (s)) (hKM : ∀ v u m, K v (xM u m) = K v u) (S : Nat → zL → List Value → zX → Prop) (hm : zMono (xhp E b rt1 (G_X0_isKind E b))) (hc : zClosed (some .boolean) (xhp E b rt1 (G_X0_isKind E b)) K cX0_isKind S) (hSM : ∀ pc L st u m, S pc L st (xM u m) = S pc L st u) : S 0 [some (.int c)] [] s := by
  refine zgo hm hc (fun _ => false) 30 ?_
  simp (config := {decide := true, maxSteps := 1000000}) (disch := first | rfl | with_unfolding_all rfl | omega | assumption | with_unfolding_all assumption | decide) only [↓Z_X0_isKind_0, ↓Z_X0_isKind_1, ↓Z_X0_isKind_2, ↓Z_X0_isKind_3, ↓Z_X0_isKind_6, ↓reduceIte, ↓zrun_stop, ↓zrun_step, ↓zb2_i, ↓zb1_i, ↓zldi_0, ↓zldi_s, ↓zlda_0, ↓zlda_n, ↓zlda_s, ↓zsc_0, ↓zsc_s, ↓zsti_c, ↓zsta_r, ↓zsta_n, ↓zic_0, ↓zic_s, ↓zpush_s, ↓zpush_n, ↓zfew_0, ↓zfew_i, ↓zfew_r, ↓zfew_n, ↓CC_X0_isKind_237, ↓TE_X0_isIn, zcat_int, zcat_ref, zcat_null, zret_int, zret_b0, zret_b1, zret_b, Nat.reduceAdd, Nat.reduceSub, Nat.reduceLT, Nat.reduceEqDiff, Nat.reduceBEq, Nat.reduceBNe, true_and, and_true, if_true, if_false, Bool.false_eq_true, Bool.true_eq_false, Bool.or_self, Bool.or_false, Bool.or_true, Bool.false_or, Bool.true_or, zbi_e0, zbi_e1, eq_self, reduceCtorEq, Fin.isValue, zent, List.map_cons, List.map_nil, List.length_cons, List.length_nil, List.replicate, List.cons_append, List.nil_append, List.append_nil, Nat.zero_add, Nat.add_zero, zF_1, zF_2, zA_1, zA_2s, zA_2n, zB_1, zB_2s, zB_2n, not_true_eq_false, not_false_eq_true, Int32.reduceLT, Int32.reduceAdd, Int32.reduceSub, Int32.reduceMul, ne_eq, Int32.reduceToNatClampNeg, zlit_vp, nI_al, nI_la, nI_lm, nI_ml, nI_ltl, nI_llt, nI_eql, nI_lt2, nI_eq2, nI_vp, nI_cl, nI_add, pk_mul, nI_divl, nI_sub2, nI_lsub, nI_ne0l, nI_1, nI_pred, pk_m1, upd_s, upd_n, Nat.lt_irrefl, decide_eq_false_iff_not, decide_eq_true_eq, ite_not, ite_self, Nat.reducePow, Nat.reduceMul, xI_s, xI_o, xI_A, xI_V, xI_n, xI_g, xI_m, xA_I, xA_s, xA_o, xA_V, xA_n, xA_g, xA_m, xB_I, xB_s, xB_o, xB_V, xB_n, xB_g, xB_m, xV_I, xV_A, xV_s, xV_o, xV_n, xV_g, xV_m, xM_I, xM_A, xM_V, xM_n, xM_g, xM_m, xAy_l, xAl_y, xBl_y, xBy_l, xAy_j, xBy_j, xIy_l, xIl_y, xIy_j, xw_I, xw_A, xw_B, xw_V, xyn_y, xlt_nI]
  exact hK
theorem MS_X0_isKind {l : Launch} {E : zEnv} {b0 b : Nat} : zMS l E b0 1 yX0_isKind (ws_ yX0_isKind cX0_isKind 1 (some .boolean)) 0 0 (xlf E b (T_X0_isKind E b)) := by
  refine X_MS (own := 1) (tb := rt1) (Γ := G_X0_isKind E b) rfl (by decide) rt1_ok (xΓok_cons (xinv.S (n := 3) MS_X0_isIn Tm_X0_isIn (by decide) (by decide) (lw_S q530 q531 q154 q532) (by decide +kernel)) xΓok_nil) ?_ ?_
  · intro as s K hT_
    obtain ⟨c, rfl, hP, hK⟩ := TC_X0_isKind hT_
    refine ⟨by show 1 ≤ 1; decide, fun v hv => ?_⟩
    simp only [List.mem_cons, List.not_mem_nil, or_false] at hv
    rcases hv with rfl <;> rfl
  · intro as s K hT_ hKM S hm hc hSM
    obtain ⟨c, rfl, hP, hK⟩ := TC_X0_isKind hT_
    exact B_X0_isKind E b c s K hP hK hKM S hm hc hSM
def P_X0_doneIn (E : zEnv) (b : Nat) (st : Int32) (w : Int32) (s : zX) : Prop := True
def Q_X0_doneIn (E : zEnv) (b : Nat) (st : Int32) (w : Int32) (s : zX) (K : Option Value → zX → Prop) : Prop := K (some (.int ((st >>> (2 * w &&& 31)) &&& 3))) (s)
def T_X0_doneIn (E : zEnv) (b : Nat) : zT zX := fun as s K => match as with
  | [.int st, .int w] => P_X0_doneIn E b st w s ∧ Q_X0_doneIn E b st w s K
  | _ => False
theorem TE_X0_doneIn {E : zEnv} {b : Nat} {st : Int32} {w : Int32} {s : zX} {K : Option Value → zX → Prop} : T_X0_doneIn E b [.int st, .int w] s K = ((True) ∧ (K (some (.int ((st >>> (2 * w &&& 31)) &&& 3))) (s))) := by
  exact rfl
theorem Tm_X0_doneIn {E : zEnv} {b : Nat} : zTm (T_X0_doneIn E b) := by
  intro as s K K' hk h
  unfold T_X0_doneIn at h ⊢
  split at h
  · exact ⟨h.1, hk _ _ (h.2)⟩
  · exact h.elim
theorem TC_X0_doneIn {E : zEnv} {b : Nat} {as : List Value} {s : zX} {K : Option Value → zX → Prop} (h : T_X0_doneIn E b as s K) : ∃ (st : Int32) (w : Int32), as = [.int st, .int w] ∧ P_X0_doneIn E b st w s ∧ Q_X0_doneIn E b st w s K := by
  unfold T_X0_doneIn at h
  split at h
  · exact ⟨_, _, rfl, h⟩
  · exact h.elim
abbrev G_X0_doneIn (E : zEnv) (b : Nat) : zΓ zX := []
theorem Z_X0_doneIn_0 {σ : Type} {ret : Option FieldType} {hp : Instr → List Value → σ → (List Value → σ → Prop) → Prop} {K : Option Value → σ → Prop} {S : Nat → zL → List Value → σ → Prop} {L : zL} {s : σ} {st : List Value} : zone ret hp K cX0_doneIn S 0 L st s = (zldi L 0 fun v => S 1 L (v :: st) s) := zone_of dX0_doneIn_0 rfl
theorem Z_X0_doneIn_1 {σ : Type} {ret : Option FieldType} {hp : Instr → List Value → σ → (List Value → σ → Prop) → Prop} {K : Option Value → σ → Prop} {S : Nat → zL → List Value → σ → Prop} {L : zL} {s : σ} {st : List Value} : zone ret hp K cX0_doneIn S 1 L st s = (S 2 L (.int 2 :: st) s) := zone_iconst dX0_doneIn_1 (by decide)
theorem Z_X0_doneIn_2 {σ : Type} {ret : Option FieldType} {hp : Instr → List Value → σ → (List Value → σ → Prop) → Prop} {K : Option Value → σ → Prop} {S : Nat → zL → List Value → σ → Prop} {L : zL} {s : σ} {st : List Value} : zone ret hp K cX0_doneIn S 2 L st s = (zldi L 1 fun v => S 3 L (v :: st) s) := zone_of dX0_doneIn_2 rfl
theorem Z_X0_doneIn_3 {σ : Type} {ret : Option FieldType} {hp : Instr → List Value → σ → (List Value → σ → Prop) → Prop} {K : Option Value → σ → Prop} {S : Nat → zL → List Value → σ → Prop} {L : zL} {s : σ} {st : List Value} : zone ret hp K cX0_doneIn S 3 L st s = (zb2 st fun x y r => S 4 L (.int (x * y) :: r) s) := zone_of dX0_doneIn_3 rfl
theorem Z_X0_doneIn_4 {σ : Type} {ret : Option FieldType} {hp : Instr → List Value → σ → (List Value → σ → Prop) → Prop} {K : Option Value → σ → Prop} {S : Nat → zL → List Value → σ → Prop} {L : zL} {s : σ} {st : List Value} : zone ret hp K cX0_doneIn S 4 L st s = (zb2 st fun x y r => S 5 L (.int (x >>> (y &&& 31)) :: r) s) := zone_of dX0_doneIn_4 rfl
theorem Z_X0_doneIn_5 {σ : Type} {ret : Option FieldType} {hp : Instr → List Value → σ → (List Value → σ → Prop) → Prop} {K : Option Value → σ → Prop} {S : Nat → zL → List Value → σ → Prop} {L : zL} {s : σ} {st : List Value} : zone ret hp K cX0_doneIn S 5 L st s = (S 6 L (.int 3 :: st) s) := zone_iconst dX0_doneIn_5 (by decide)
theorem Z_X0_doneIn_6 {σ : Type} {ret : Option FieldType} {hp : Instr → List Value → σ → (List Value → σ → Prop) → Prop} {K : Option Value → σ → Prop} {S : Nat → zL → List Value → σ → Prop} {L : zL} {s : σ} {st : List Value} : zone ret hp K cX0_doneIn S 6 L st s = (zb2 st fun x y r => S 7 L (.int (x &&& y) :: r) s) := zone_of dX0_doneIn_6 rfl
theorem Z_X0_doneIn_7 {σ : Type} {ret : Option FieldType} {hp : Instr → List Value → σ → (List Value → σ → Prop) → Prop} {K : Option Value → σ → Prop} {S : Nat → zL → List Value → σ → Prop} {L : zL} {s : σ} {v : Int32} : zone ret hp K cX0_doneIn S 7 L [.int v] s = (zretI ret v ∧ K (some (.int v)) s) := zone_of dX0_doneIn_7 rfl
set_option maxRecDepth 100000 in
set_option maxHeartbeats 4000000 in
theorem B_X0_doneIn (E : zEnv) (b : Nat) (st : Int32) (w : Int32) (s : zX) (K : Option Value → zX → Prop) (hP : True) (hK : K (some (.int ((st >>> (2 * w &&& 31)) &&& 3))) (s)) (hKM : ∀ v u m, K v (xM u m) = K v u) (S : Nat → zL → List Value → zX → Prop) (hm : zMono (xhp E b rt1 (G_X0_doneIn E b))) (hc : zClosed (some .int) (xhp E b rt1 (G_X0_doneIn E b)) K cX0_doneIn S) (hSM : ∀ pc L st u m, S pc L st (xM u m) = S pc L st u) : S 0 [some (.int st), some (.int w)] [] s := by
  refine zgo hm hc (fun _ => false) 30 ?_
  simp (config := {decide := true, maxSteps := 1000000}) (disch := first | rfl | with_unfolding_all rfl | omega | assumption | with_unfolding_all assumption | decide) only [↓Z_X0_doneIn_0, ↓Z_X0_doneIn_1, ↓Z_X0_doneIn_2, ↓Z_X0_doneIn_3, ↓Z_X0_doneIn_4, ↓Z_X0_doneIn_5, ↓Z_X0_doneIn_6, ↓Z_X0_doneIn_7, ↓reduceIte, ↓zrun_stop, ↓zrun_step, ↓zb2_i, ↓zb1_i, ↓zldi_0, ↓zldi_s, ↓zlda_0, ↓zlda_n, ↓zlda_s, ↓zsc_0, ↓zsc_s, ↓zsti_c, ↓zsta_r, ↓zsta_n, ↓zic_0, ↓zic_s, ↓zpush_s, ↓zpush_n, ↓zfew_0, ↓zfew_i, ↓zfew_r, ↓zfew_n, zcat_int, zcat_ref, zcat_null, zret_int, zret_b0, zret_b1, zret_b, Nat.reduceAdd, Nat.reduceSub, Nat.reduceLT, Nat.reduceEqDiff, Nat.reduceBEq, Nat.reduceBNe, true_and, and_true, if_true, if_false, Bool.false_eq_true, Bool.true_eq_false, Bool.or_self, Bool.or_false, Bool.or_true, Bool.false_or, Bool.true_or, zbi_e0, zbi_e1, eq_self, reduceCtorEq, Fin.isValue, zent, List.map_cons, List.map_nil, List.length_cons, List.length_nil, List.replicate, List.cons_append, List.nil_append, List.append_nil, Nat.zero_add, Nat.add_zero, zF_1, zF_2, zA_1, zA_2s, zA_2n, zB_1, zB_2s, zB_2n, not_true_eq_false, not_false_eq_true, Int32.reduceLT, Int32.reduceAdd, Int32.reduceSub, Int32.reduceMul, ne_eq, Int32.reduceToNatClampNeg, zlit_vp, nI_al, nI_la, nI_lm, nI_ml, nI_ltl, nI_llt, nI_eql, nI_lt2, nI_eq2, nI_vp, nI_cl, nI_add, pk_mul, nI_divl, nI_sub2, nI_lsub, nI_ne0l, nI_1, nI_pred, pk_m1, upd_s, upd_n, Nat.lt_irrefl, decide_eq_false_iff_not, decide_eq_true_eq, ite_not, ite_self, Nat.reducePow, Nat.reduceMul, xI_s, xI_o, xI_A, xI_V, xI_n, xI_g, xI_m, xA_I, xA_s, xA_o, xA_V, xA_n, xA_g, xA_m, xB_I, xB_s, xB_o, xB_V, xB_n, xB_g, xB_m, xV_I, xV_A, xV_s, xV_o, xV_n, xV_g, xV_m, xM_I, xM_A, xM_V, xM_n, xM_g, xM_m, xAy_l, xAl_y, xBl_y, xBy_l, xAy_j, xBy_j, xIy_l, xIl_y, xIy_j, xw_I, xw_A, xw_B, xw_V, xyn_y, xlt_nI]
  exact hK
theorem MS_X0_doneIn {l : Launch} {E : zEnv} {b0 b : Nat} : zMS l E b0 0 yX0_doneIn (ws_ yX0_doneIn cX0_doneIn 2 (some .int)) 0 0 (xlf E b (T_X0_doneIn E b)) := by
  refine X_MS (own := 1) (tb := rt1) (Γ := G_X0_doneIn E b) rfl (by decide) rt1_ok xΓok_nil ?_ ?_
  · intro as s K hT_
    obtain ⟨st, w, rfl, hP, hK⟩ := TC_X0_doneIn hT_
    refine ⟨by show 2 ≤ 2; decide, fun v hv => ?_⟩
    simp only [List.mem_cons, List.not_mem_nil, or_false] at hv
    rcases hv with rfl | rfl <;> rfl
  · intro as s K hT_ hKM S hm hc hSM
    obtain ⟨st, w, rfl, hP, hK⟩ := TC_X0_doneIn hT_
    exact B_X0_doneIn E b st w s K hP hK hKM S hm hc hSM
def P_X0_ordersOf (k_ : Nat) (E : zEnv) (b : Nat) (n : Int32) (s : zX) : Prop := ∃ N, N < k_ ∧ N < 9 ∧ n = nI N
def Q_X0_ordersOf (k_ : Nat) (E : zEnv) (b : Nat) (n : Int32) (s : zX) (K : Option Value → zX → Prop) : Prop := K (some (.int (yfac n.toNatClampNeg))) (s)
def TR_X0_ordersOf (k_ : Nat) (E : zEnv) (b : Nat) : zT zX := fun as s K => match as with
  | [.int n] => P_X0_ordersOf k_ E b n s ∧ Q_X0_ordersOf k_ E b n s K
  | _ => False
theorem TER_X0_ordersOf {E : zEnv} {b : Nat} {k_ : Nat} {n : Int32} {s : zX} {K : Option Value → zX → Prop} : TR_X0_ordersOf k_ E b [.int n] s K = ((∃ N, N < k_ ∧ N < 9 ∧ n = nI N) ∧ (K (some (.int (yfac n.toNatClampNeg))) (s))) := by
  exact rfl
theorem TmR_X0_ordersOf {k_ : Nat} {E : zEnv} {b : Nat} : zTm (TR_X0_ordersOf k_ E b) := by
  intro as s K K' hk h
  unfold TR_X0_ordersOf at h ⊢
  split at h
  · exact ⟨h.1, hk _ _ (h.2)⟩
  · exact h.elim
theorem TCR_X0_ordersOf {k_ : Nat} {E : zEnv} {b : Nat} {as : List Value} {s : zX} {K : Option Value → zX → Prop} (h : TR_X0_ordersOf k_ E b as s K) : ∃ (n : Int32), as = [.int n] ∧ P_X0_ordersOf k_ E b n s ∧ Q_X0_ordersOf k_ E b n s K := by
  unfold TR_X0_ordersOf at h
  split at h
  · exact ⟨_, rfl, h⟩
  · exact h.elim
abbrev G_X0_ordersOf (k_ : Nat) (E : zEnv) (b : Nat) : zΓ zX := [(612, false, 1, (TR_X0_ordersOf k_ E b))]
theorem Z_X0_ordersOf_0 {σ : Type} {ret : Option FieldType} {hp : Instr → List Value → σ → (List Value → σ → Prop) → Prop} {K : Option Value → σ → Prop} {S : Nat → zL → List Value → σ → Prop} {L : zL} {s : σ} {st : List Value} : zone ret hp K cX0_ordersOf S 0 L st s = (zldi L 0 fun v => S 1 L (v :: st) s) := zone_of dX0_ordersOf_0 rfl
theorem Z_X0_ordersOf_1 {σ : Type} {ret : Option FieldType} {hp : Instr → List Value → σ → (List Value → σ → Prop) → Prop} {K : Option Value → σ → Prop} {S : Nat → zL → List Value → σ → Prop} {L : zL} {s : σ} {st : List Value} : zone ret hp K cX0_ordersOf S 1 L st s = (S 2 L (.int 2 :: st) s) := zone_iconst dX0_ordersOf_1 (by decide)
theorem Z_X0_ordersOf_2 {σ : Type} {ret : Option FieldType} {hp : Instr → List Value → σ → (List Value → σ → Prop) → Prop} {K : Option Value → σ → Prop} {S : Nat → zL → List Value → σ → Prop} {L : zL} {s : σ} {st : List Value} : zone ret hp K cX0_ordersOf S 2 L st s = (zb2 st fun x y r => if x < y then S 5 L r s else S 9 L r s) := zone_ic_ge dX0_ordersOf_2 (by decide)
theorem Z_X0_ordersOf_5 {σ : Type} {ret : Option FieldType} {hp : Instr → List Value → σ → (List Value → σ → Prop) → Prop} {K : Option Value → σ → Prop} {S : Nat → zL → List Value → σ → Prop} {L : zL} {s : σ} {st : List Value} : zone ret hp K cX0_ordersOf S 5 L st s = (S 6 L (.int 1 :: st) s) := zone_iconst dX0_ordersOf_5 (by decide)
theorem Z_X0_ordersOf_6 {σ : Type} {ret : Option FieldType} {hp : Instr → List Value → σ → (List Value → σ → Prop) → Prop} {K : Option Value → σ → Prop} {S : Nat → zL → List Value → σ → Prop} {L : zL} {s : σ} {st : List Value} : zone ret hp K cX0_ordersOf S 6 L st s = (S 17 L st s) := zone_goto dX0_ordersOf_6 (by decide)
theorem Z_X0_ordersOf_9 {σ : Type} {ret : Option FieldType} {hp : Instr → List Value → σ → (List Value → σ → Prop) → Prop} {K : Option Value → σ → Prop} {S : Nat → zL → List Value → σ → Prop} {L : zL} {s : σ} {st : List Value} : zone ret hp K cX0_ordersOf S 9 L st s = (zldi L 0 fun v => S 10 L (v :: st) s) := zone_of dX0_ordersOf_9 rfl
theorem Z_X0_ordersOf_10 {σ : Type} {ret : Option FieldType} {hp : Instr → List Value → σ → (List Value → σ → Prop) → Prop} {K : Option Value → σ → Prop} {S : Nat → zL → List Value → σ → Prop} {L : zL} {s : σ} {st : List Value} : zone ret hp K cX0_ordersOf S 10 L st s = (zldi L 0 fun v => S 11 L (v :: st) s) := zone_of dX0_ordersOf_10 rfl
theorem Z_X0_ordersOf_11 {σ : Type} {ret : Option FieldType} {hp : Instr → List Value → σ → (List Value → σ → Prop) → Prop} {K : Option Value → σ → Prop} {S : Nat → zL → List Value → σ → Prop} {L : zL} {s : σ} {st : List Value} : zone ret hp K cX0_ordersOf S 11 L st s = (S 12 L (.int 1 :: st) s) := zone_iconst dX0_ordersOf_11 (by decide)
theorem Z_X0_ordersOf_12 {σ : Type} {ret : Option FieldType} {hp : Instr → List Value → σ → (List Value → σ → Prop) → Prop} {K : Option Value → σ → Prop} {S : Nat → zL → List Value → σ → Prop} {L : zL} {s : σ} {st : List Value} : zone ret hp K cX0_ordersOf S 12 L st s = (zb2 st fun x y r => S 13 L (.int (x - y) :: r) s) := zone_of dX0_ordersOf_12 rfl
theorem Z_X0_ordersOf_13 {σ : Type} {ret : Option FieldType} {hp : Instr → List Value → σ → (List Value → σ → Prop) → Prop} {K : Option Value → σ → Prop} {S : Nat → zL → List Value → σ → Prop} {L : zL} {s : σ} {st : List Value} : zone ret hp K cX0_ordersOf S 13 L st s = (hp (.invokestatic 612) st s (fun st' s' => S 16 L st' s')) := zone_of dX0_ordersOf_13 rfl
theorem Z_X0_ordersOf_16 {σ : Type} {ret : Option FieldType} {hp : Instr → List Value → σ → (List Value → σ → Prop) → Prop} {K : Option Value → σ → Prop} {S : Nat → zL → List Value → σ → Prop} {L : zL} {s : σ} {st : List Value} : zone ret hp K cX0_ordersOf S 16 L st s = (zb2 st fun x y r => S 17 L (.int (x * y) :: r) s) := zone_of dX0_ordersOf_16 rfl
theorem Z_X0_ordersOf_17 {σ : Type} {ret : Option FieldType} {hp : Instr → List Value → σ → (List Value → σ → Prop) → Prop} {K : Option Value → σ → Prop} {S : Nat → zL → List Value → σ → Prop} {L : zL} {s : σ} {v : Int32} : zone ret hp K cX0_ordersOf S 17 L [.int v] s = (zretI ret v ∧ K (some (.int v)) s) := zone_of dX0_ordersOf_17 rfl
theorem CC_X0_ordersOf_612 {E : zEnv} {b : Nat} {k_ : Nat} {a0 : Value} {r : List Value} {s : zX} {k : List Value → zX → Prop} : xhp E b rt1 (G_X0_ordersOf k_ E b) (.invokestatic 612) (a0 :: r) s k = (zfew r 8 = true ∧ (TR_X0_ordersOf k_ E b) [a0] s (fun v s' => zpush v r (fun q => k q s'))) := xcS rfl rfl
set_option maxRecDepth 100000 in
set_option maxHeartbeats 4000000 in
theorem B_X0_ordersOf (k_ : Nat) (E : zEnv) (b : Nat) (n : Int32) (s : zX) (K : Option Value → zX → Prop) (hP : P_X0_ordersOf (k_ + 1) E b n s) (hK : Q_X0_ordersOf (k_ + 1) E b n s K) (hKM : ∀ v u m, K v (xM u m) = K v u) (S : Nat → zL → List Value → zX → Prop) (hm : zMono (xhp E b rt1 (G_X0_ordersOf k_ E b))) (hc : zClosed (some .int) (xhp E b rt1 (G_X0_ordersOf k_ E b)) K cX0_ordersOf S) (hSM : ∀ pc L st u m, S pc L st (xM u m) = S pc L st u) : S 0 [some (.int n)] [] s := by
  obtain ⟨N, hN, hN9, rfl⟩ := hP
  unfold Q_X0_ordersOf at hK
  rw [nI_clamp (by omega)] at hK
  by_cases c : N < 2
  · have e : yfac N = 1 := by
      rcases (show N = 0 ∨ N = 1 by omega) with rfl | rfl <;> rfl
    rw [e] at hK
    refine zgo hm hc (fun _ => false) 40 ?_
    simp (config := {decide := true, maxSteps := 1000000}) (disch := first | rfl | with_unfolding_all rfl | omega | assumption | with_unfolding_all assumption | decide) only [↓Z_X0_ordersOf_0, ↓Z_X0_ordersOf_1, ↓Z_X0_ordersOf_2, ↓Z_X0_ordersOf_5, ↓Z_X0_ordersOf_6, ↓Z_X0_ordersOf_9, ↓Z_X0_ordersOf_10, ↓Z_X0_ordersOf_11, ↓Z_X0_ordersOf_12, ↓Z_X0_ordersOf_13, ↓Z_X0_ordersOf_16, ↓Z_X0_ordersOf_17, ↓reduceIte, ↓zrun_stop, ↓zrun_step, ↓zb2_i, ↓zb1_i, ↓zldi_0, ↓zldi_s, ↓zlda_0, ↓zlda_n, ↓zlda_s, ↓zsc_0, ↓zsc_s, ↓zsti_c, ↓zsta_r, ↓zsta_n, ↓zic_0, ↓zic_s, ↓zpush_s, ↓zpush_n, ↓zfew_0, ↓zfew_i, ↓zfew_r, ↓zfew_n, ↓CC_X0_ordersOf_612, ↓TER_X0_ordersOf, zcat_int, zcat_ref, zcat_null, zret_int, zret_b0, zret_b1, zret_b, Nat.reduceAdd, Nat.reduceSub, Nat.reduceLT, Nat.reduceEqDiff, Nat.reduceBEq, Nat.reduceBNe, true_and, and_true, if_true, if_false, Bool.false_eq_true, Bool.true_eq_false, Bool.or_self, Bool.or_false, Bool.or_true, Bool.false_or, Bool.true_or, zbi_e0, zbi_e1, eq_self, reduceCtorEq, Fin.isValue, zent, List.map_cons, List.map_nil, List.length_cons, List.length_nil, List.replicate, List.cons_append, List.nil_append, List.append_nil, Nat.zero_add, Nat.add_zero, zF_1, zF_2, zA_1, zA_2s, zA_2n, zB_1, zB_2s, zB_2n, not_true_eq_false, not_false_eq_true, Int32.reduceLT, Int32.reduceAdd, Int32.reduceSub, Int32.reduceMul, ne_eq, Int32.reduceToNatClampNeg, zlit_vp, nI_al, nI_la, nI_lm, nI_ml, nI_ltl, nI_llt, nI_eql, nI_lt2, nI_eq2, nI_vp, nI_cl, nI_add, pk_mul, nI_divl, nI_sub2, nI_lsub, nI_ne0l, nI_1, nI_pred, pk_m1, upd_s, upd_n, Nat.lt_irrefl, decide_eq_false_iff_not, decide_eq_true_eq, ite_not, ite_self, Nat.reducePow, Nat.reduceMul, xI_s, xI_o, xI_A, xI_V, xI_n, xI_g, xI_m, xA_I, xA_s, xA_o, xA_V, xA_n, xA_g, xA_m, xB_I, xB_s, xB_o, xB_V, xB_n, xB_g, xB_m, xV_I, xV_A, xV_s, xV_o, xV_n, xV_g, xV_m, xM_I, xM_A, xM_V, xM_n, xM_g, xM_m, xAy_l, xAl_y, xBl_y, xBy_l, xAy_j, xBy_j, xIy_l, xIl_y, xIy_j, xw_I, xw_A, xw_B, xw_V, xyn_y, xlt_nI, c]
    exact hK
  · obtain ⟨M, rfl⟩ : ∃ M, N = M + 1 := ⟨N - 1, by omega⟩
    rw [yfac, if_neg c] at hK
    have hM : ∃ N, N < k_ ∧ N < 9 ∧ nI M = nI N := ⟨M, by omega, by omega, rfl⟩
    refine zgo hm hc (fun _ => false) 40 ?_
    simp (config := {decide := true, maxSteps := 1000000}) (disch := first | rfl | with_unfolding_all rfl | omega | assumption | with_unfolding_all assumption | decide) only [↓Z_X0_ordersOf_0, ↓Z_X0_ordersOf_1, ↓Z_X0_ordersOf_2, ↓Z_X0_ordersOf_5, ↓Z_X0_ordersOf_6, ↓Z_X0_ordersOf_9, ↓Z_X0_ordersOf_10, ↓Z_X0_ordersOf_11, ↓Z_X0_ordersOf_12, ↓Z_X0_ordersOf_13, ↓Z_X0_ordersOf_16, ↓Z_X0_ordersOf_17, ↓reduceIte, ↓zrun_stop, ↓zrun_step, ↓zb2_i, ↓zb1_i, ↓zldi_0, ↓zldi_s, ↓zlda_0, ↓zlda_n, ↓zlda_s, ↓zsc_0, ↓zsc_s, ↓zsti_c, ↓zsta_r, ↓zsta_n, ↓zic_0, ↓zic_s, ↓zpush_s, ↓zpush_n, ↓zfew_0, ↓zfew_i, ↓zfew_r, ↓zfew_n, ↓CC_X0_ordersOf_612, ↓TER_X0_ordersOf, zcat_int, zcat_ref, zcat_null, zret_int, zret_b0, zret_b1, zret_b, Nat.reduceAdd, Nat.reduceSub, Nat.reduceLT, Nat.reduceEqDiff, Nat.reduceBEq, Nat.reduceBNe, true_and, and_true, if_true, if_false, Bool.false_eq_true, Bool.true_eq_false, Bool.or_self, Bool.or_false, Bool.or_true, Bool.false_or, Bool.true_or, zbi_e0, zbi_e1, eq_self, reduceCtorEq, Fin.isValue, zent, List.map_cons, List.map_nil, List.length_cons, List.length_nil, List.replicate, List.cons_append, List.nil_append, List.append_nil, Nat.zero_add, Nat.add_zero, zF_1, zF_2, zA_1, zA_2s, zA_2n, zB_1, zB_2s, zB_2n, not_true_eq_false, not_false_eq_true, Int32.reduceLT, Int32.reduceAdd, Int32.reduceSub, Int32.reduceMul, ne_eq, Int32.reduceToNatClampNeg, zlit_vp, nI_al, nI_la, nI_lm, nI_ml, nI_ltl, nI_llt, nI_eql, nI_lt2, nI_eq2, nI_vp, nI_cl, nI_add, pk_mul, nI_divl, nI_sub2, nI_lsub, nI_ne0l, nI_1, nI_pred, pk_m1, upd_s, upd_n, Nat.lt_irrefl, decide_eq_false_iff_not, decide_eq_true_eq, ite_not, ite_self, Nat.reducePow, Nat.reduceMul, xI_s, xI_o, xI_A, xI_V, xI_n, xI_g, xI_m, xA_I, xA_s, xA_o, xA_V, xA_n, xA_g, xA_m, xB_I, xB_s, xB_o, xB_V, xB_n, xB_g, xB_m, xV_I, xV_A, xV_s, xV_o, xV_n, xV_g, xV_m, xM_I, xM_A, xM_V, xM_n, xM_g, xM_m, xAy_l, xAl_y, xBl_y, xBy_l, xAy_j, xBy_j, xIy_l, xIl_y, xIy_j, xw_I, xw_A, xw_B, xw_V, xyn_y, xlt_nI, c, nI_sl, Nat.add_sub_cancel, hM]
    exact hK
theorem MSR_X0_ordersOf {l : Launch} {E : zEnv} {b0 b : Nat} (k_ : Nat) : zMS l E b0 (0 + k_) yX0_ordersOf (ws_ yX0_ordersOf cX0_ordersOf 1 (some .int)) 0 0 (xlf E b (TR_X0_ordersOf k_ E b)) := by
  induction k_ with
  | zero =>
    rintro args σ K ⟨s, rfl, h⟩
    obtain ⟨n, rfl, hP, hK⟩ := TCR_X0_ordersOf h
    exact (by simpa [P_X0_ordersOf] using hP : False).elim
  | succ k_ ih =>
    refine X_MS (own := 1) (tb := rt1) (Γ := G_X0_ordersOf k_ E b) rfl (by decide) rt1_ok (xΓok_cons (xinv.S (n := 1) ih TmR_X0_ordersOf (by omega) (by decide) (lw_S q1251 q1252 q154 q1253) (by decide +kernel)) xΓok_nil) ?_ ?_
    · intro as s K hT_
      obtain ⟨n, rfl, hP, hK⟩ := TCR_X0_ordersOf hT_
      refine ⟨by show 1 ≤ 1; decide, fun v hv => ?_⟩
      simp only [List.mem_cons, List.not_mem_nil, or_false] at hv
      rcases hv with rfl <;> rfl
    · intro as s K hT_ hKM S hm hc hSM
      obtain ⟨n, rfl, hP, hK⟩ := TCR_X0_ordersOf hT_
      exact B_X0_ordersOf k_ E b n s K hP hK hKM S hm hc hSM
def T_X0_ordersOf (E : zEnv) (b : Nat) : zT zX := TR_X0_ordersOf 9 E b
theorem Tm_X0_ordersOf {E : zEnv} {b : Nat} : zTm (T_X0_ordersOf E b) := TmR_X0_ordersOf
theorem MS_X0_ordersOf {l : Launch} {E : zEnv} {b0 b : Nat} : zMS l E b0 9 yX0_ordersOf (ws_ yX0_ordersOf cX0_ordersOf 1 (some .int)) 0 0 (xlf E b (T_X0_ordersOf E b)) := MSR_X0_ordersOf 9
theorem TE_X0_ordersOf {E : zEnv} {b : Nat} {n : Int32} {s : zX} {K : Option Value → zX → Prop} : T_X0_ordersOf E b [.int n] s K = ((∃ N, N < 9 ∧ N < 9 ∧ n = nI N) ∧ (K (some (.int (yfac n.toNatClampNeg))) (s))) := TER_X0_ordersOf
def P_X0_isTool (E : zEnv) (b : Nat) (t : Int32) (s : zX) : Prop := True
def Q_X0_isTool (E : zEnv) (b : Nat) (t : Int32) (s : zX) (K : Option Value → zX → Prop) : Prop := K (some (.int (zbi (yin t 0 (s.I 27 - 1))))) (s)
def T_X0_isTool (E : zEnv) (b : Nat) : zT zX := fun as s K => match as with
  | [.ref a_, .int t] => a_ = b ∧ P_X0_isTool E b t s ∧ Q_X0_isTool E b t s K
  | _ => False
theorem TE_X0_isTool {E : zEnv} {b : Nat} {t : Int32} {s : zX} {K : Option Value → zX → Prop} : T_X0_isTool E b [.ref b, .int t] s K = ((True) ∧ (K (some (.int (zbi (yin t 0 (s.I 27 - 1))))) (s))) := by
  exact propext ⟨fun h => h.2, fun h => ⟨rfl, h⟩⟩
theorem Tm_X0_isTool {E : zEnv} {b : Nat} : zTm (T_X0_isTool E b) := by
  intro as s K K' hk h
  unfold T_X0_isTool at h ⊢
  split at h
  · exact ⟨h.1, h.2.1, hk _ _ (h.2.2)⟩
  · exact h.elim
theorem TC_X0_isTool {E : zEnv} {b : Nat} {as : List Value} {s : zX} {K : Option Value → zX → Prop} (h : T_X0_isTool E b as s K) : ∃ (t : Int32), as = [.ref b, .int t] ∧ P_X0_isTool E b t s ∧ Q_X0_isTool E b t s K := by
  unfold T_X0_isTool at h
  split at h
  · exact ⟨_, by rw [h.1], h.2⟩
  · exact h.elim
theorem Tr_X0_isTool {E : zEnv} {b : Nat} : xrc E b 1 (T_X0_isTool E b) := by
  intro as s K h
  unfold T_X0_isTool at h
  split at h
  · exact ⟨_, _, rfl, by rw [h.1]; exact xG_0⟩
  · exact h.elim
abbrev G_X0_isTool (E : zEnv) (b : Nat) : zΓ zX := [(237, false, 3, (T_X0_isIn E b))]
theorem Z_X0_isTool_0 {σ : Type} {ret : Option FieldType} {hp : Instr → List Value → σ → (List Value → σ → Prop) → Prop} {K : Option Value → σ → Prop} {S : Nat → zL → List Value → σ → Prop} {L : zL} {s : σ} {st : List Value} : zone ret hp K cX0_isTool S 0 L st s = (zldi L 1 fun v => S 1 L (v :: st) s) := zone_of dX0_isTool_0 rfl
theorem Z_X0_isTool_1 {σ : Type} {ret : Option FieldType} {hp : Instr → List Value → σ → (List Value → σ → Prop) → Prop} {K : Option Value → σ → Prop} {S : Nat → zL → List Value → σ → Prop} {L : zL} {s : σ} {st : List Value} : zone ret hp K cX0_isTool S 1 L st s = (S 2 L (.int 0 :: st) s) := zone_iconst dX0_isTool_1 (by decide)
theorem Z_X0_isTool_2 {σ : Type} {ret : Option FieldType} {hp : Instr → List Value → σ → (List Value → σ → Prop) → Prop} {K : Option Value → σ → Prop} {S : Nat → zL → List Value → σ → Prop} {L : zL} {s : σ} {st : List Value} : zone ret hp K cX0_isTool S 2 L st s = (zlda L 0 fun v => S 3 L (v :: st) s) := zone_of dX0_isTool_2 rfl
theorem Z_X0_isTool_3 {σ : Type} {ret : Option FieldType} {hp : Instr → List Value → σ → (List Value → σ → Prop) → Prop} {K : Option Value → σ → Prop} {S : Nat → zL → List Value → σ → Prop} {L : zL} {s : σ} {st : List Value} : zone ret hp K cX0_isTool S 3 L st s = (hp (.getfield 393) st s (fun st' s' => S 6 L st' s')) := zone_of dX0_isTool_3 rfl
theorem Z_X0_isTool_6 {σ : Type} {ret : Option FieldType} {hp : Instr → List Value → σ → (List Value → σ → Prop) → Prop} {K : Option Value → σ → Prop} {S : Nat → zL → List Value → σ → Prop} {L : zL} {s : σ} {st : List Value} : zone ret hp K cX0_isTool S 6 L st s = (S 7 L (.int 1 :: st) s) := zone_iconst dX0_isTool_6 (by decide)
theorem Z_X0_isTool_7 {σ : Type} {ret : Option FieldType} {hp : Instr → List Value → σ → (List Value → σ → Prop) → Prop} {K : Option Value → σ → Prop} {S : Nat → zL → List Value → σ → Prop} {L : zL} {s : σ} {st : List Value} : zone ret hp K cX0_isTool S 7 L st s = (zb2 st fun x y r => S 8 L (.int (x - y) :: r) s) := zone_of dX0_isTool_7 rfl
theorem Z_X0_isTool_8 {σ : Type} {ret : Option FieldType} {hp : Instr → List Value → σ → (List Value → σ → Prop) → Prop} {K : Option Value → σ → Prop} {S : Nat → zL → List Value → σ → Prop} {L : zL} {s : σ} {st : List Value} : zone ret hp K cX0_isTool S 8 L st s = (hp (.invokestatic 237) st s (fun st' s' => S 11 L st' s')) := zone_of dX0_isTool_8 rfl
theorem Z_X0_isTool_11 {σ : Type} {ret : Option FieldType} {hp : Instr → List Value → σ → (List Value → σ → Prop) → Prop} {K : Option Value → σ → Prop} {S : Nat → zL → List Value → σ → Prop} {L : zL} {s : σ} {v : Int32} : zone ret hp K cX0_isTool S 11 L [.int v] s = (zretI ret v ∧ K (some (.int v)) s) := zone_of dX0_isTool_11 rfl
theorem CC_X0_isTool_237 {E : zEnv} {b : Nat} {a0 a1 a2 : Value} {r : List Value} {s : zX} {k : List Value → zX → Prop} : xhp E b rt1 (G_X0_isTool E b) (.invokestatic 237) (a2 :: a1 :: a0 :: r) s k = (zfew r 8 = true ∧ (T_X0_isIn E b) [a0, a1, a2] s (fun v s' => zpush v r (fun q => k q s'))) := xcS rfl rfl
set_option maxRecDepth 100000 in
set_option maxHeartbeats 4000000 in
theorem B_X0_isTool (E : zEnv) (b : Nat) (t : Int32) (s : zX) (K : Option Value → zX → Prop) (hP : True) (hK : K (some (.int (zbi (yin t 0 (s.I 27 - 1))))) (s)) (hKM : ∀ v u m, K v (xM u m) = K v u) (S : Nat → zL → List Value → zX → Prop) (hm : zMono (xhp E b rt1 (G_X0_isTool E b))) (hc : zClosed (some .boolean) (xhp E b rt1 (G_X0_isTool E b)) K cX0_isTool S) (hSM : ∀ pc L st u m, S pc L st (xM u m) = S pc L st u) : S 0 [some (.ref b), some (.int t)] [] s := by
  refine zgo hm hc (fun _ => false) 40 ?_
  simp (config := {decide := true, maxSteps := 1000000}) (disch := first | rfl | with_unfolding_all rfl | omega | assumption | with_unfolding_all assumption | decide) only [↓Z_X0_isTool_0, ↓Z_X0_isTool_1, ↓Z_X0_isTool_2, ↓Z_X0_isTool_3, ↓Z_X0_isTool_6, ↓Z_X0_isTool_7, ↓Z_X0_isTool_8, ↓Z_X0_isTool_11, ↓reduceIte, ↓zrun_stop, ↓zrun_step, ↓zb2_i, ↓zb1_i, ↓zldi_0, ↓zldi_s, ↓zlda_0, ↓zlda_n, ↓zlda_s, ↓zsc_0, ↓zsc_s, ↓zsti_c, ↓zsta_r, ↓zsta_n, ↓zic_0, ↓zic_s, ↓zpush_s, ↓zpush_n, ↓zfew_0, ↓zfew_i, ↓zfew_r, ↓zfew_n, ↓xg1_393, ↓CC_X0_isTool_237, ↓TE_X0_isIn, zcat_int, zcat_ref, zcat_null, zret_int, zret_b0, zret_b1, zret_b, Nat.reduceAdd, Nat.reduceSub, Nat.reduceLT, Nat.reduceEqDiff, Nat.reduceBEq, Nat.reduceBNe, true_and, and_true, if_true, if_false, Bool.false_eq_true, Bool.true_eq_false, Bool.or_self, Bool.or_false, Bool.or_true, Bool.false_or, Bool.true_or, zbi_e0, zbi_e1, eq_self, reduceCtorEq, Fin.isValue, zent, List.map_cons, List.map_nil, List.length_cons, List.length_nil, List.replicate, List.cons_append, List.nil_append, List.append_nil, Nat.zero_add, Nat.add_zero, zF_1, zF_2, zA_1, zA_2s, zA_2n, zB_1, zB_2s, zB_2n, not_true_eq_false, not_false_eq_true, Int32.reduceLT, Int32.reduceAdd, Int32.reduceSub, Int32.reduceMul, ne_eq, Int32.reduceToNatClampNeg, zlit_vp, nI_al, nI_la, nI_lm, nI_ml, nI_ltl, nI_llt, nI_eql, nI_lt2, nI_eq2, nI_vp, nI_cl, nI_add, pk_mul, nI_divl, nI_sub2, nI_lsub, nI_ne0l, nI_1, nI_pred, pk_m1, upd_s, upd_n, Nat.lt_irrefl, decide_eq_false_iff_not, decide_eq_true_eq, ite_not, ite_self, Nat.reducePow, Nat.reduceMul, xI_s, xI_o, xI_A, xI_V, xI_n, xI_g, xI_m, xA_I, xA_s, xA_o, xA_V, xA_n, xA_g, xA_m, xB_I, xB_s, xB_o, xB_V, xB_n, xB_g, xB_m, xV_I, xV_A, xV_s, xV_o, xV_n, xV_g, xV_m, xM_I, xM_A, xM_V, xM_n, xM_g, xM_m, xAy_l, xAl_y, xBl_y, xBy_l, xAy_j, xBy_j, xIy_l, xIl_y, xIy_j, xw_I, xw_A, xw_B, xw_V, xyn_y, xlt_nI]
  exact hK
theorem MS_X0_isTool {l : Launch} {E : zEnv} {b0 b : Nat} : zMS l E b0 1 yX0_isTool (ws_ yX0_isTool cX0_isTool 2 (some .boolean)) 0 0 (xlf E b (T_X0_isTool E b)) := by
  refine X_MS (own := 1) (tb := rt1) (Γ := G_X0_isTool E b) rfl (by decide) rt1_ok (xΓok_cons (xinv.S (n := 3) MS_X0_isIn Tm_X0_isIn (by decide) (by decide) (lw_S q530 q531 q154 q532) (by decide +kernel)) xΓok_nil) ?_ ?_
  · intro as s K hT_
    obtain ⟨t, rfl, hP, hK⟩ := TC_X0_isTool hT_
    refine ⟨by show 2 ≤ 2; decide, fun v hv => ?_⟩
    simp only [List.mem_cons, List.not_mem_nil, or_false] at hv
    rcases hv with rfl | rfl <;> rfl
  · intro as s K hT_ hKM S hm hc hSM
    obtain ⟨t, rfl, hP, hK⟩ := TC_X0_isTool hT_
    exact B_X0_isTool E b t s K hP hK hKM S hm hc hSM
def P_X0_isMan (E : zEnv) (b : Nat) (t : Int32) (s : zX) : Prop := True
def Q_X0_isMan (E : zEnv) (b : Nat) (t : Int32) (s : zX) (K : Option Value → zX → Prop) : Prop := K (some (.int (zbi (yin t 0 (s.I 28 - 1))))) (s)
def T_X0_isMan (E : zEnv) (b : Nat) : zT zX := fun as s K => match as with
  | [.ref a_, .int t] => a_ = b ∧ P_X0_isMan E b t s ∧ Q_X0_isMan E b t s K
  | _ => False
theorem TE_X0_isMan {E : zEnv} {b : Nat} {t : Int32} {s : zX} {K : Option Value → zX → Prop} : T_X0_isMan E b [.ref b, .int t] s K = ((True) ∧ (K (some (.int (zbi (yin t 0 (s.I 28 - 1))))) (s))) := by
  exact propext ⟨fun h => h.2, fun h => ⟨rfl, h⟩⟩
theorem Tm_X0_isMan {E : zEnv} {b : Nat} : zTm (T_X0_isMan E b) := by
  intro as s K K' hk h
  unfold T_X0_isMan at h ⊢
  split at h
  · exact ⟨h.1, h.2.1, hk _ _ (h.2.2)⟩
  · exact h.elim
theorem TC_X0_isMan {E : zEnv} {b : Nat} {as : List Value} {s : zX} {K : Option Value → zX → Prop} (h : T_X0_isMan E b as s K) : ∃ (t : Int32), as = [.ref b, .int t] ∧ P_X0_isMan E b t s ∧ Q_X0_isMan E b t s K := by
  unfold T_X0_isMan at h
  split at h
  · exact ⟨_, by rw [h.1], h.2⟩
  · exact h.elim
theorem Tr_X0_isMan {E : zEnv} {b : Nat} : xrc E b 1 (T_X0_isMan E b) := by
  intro as s K h
  unfold T_X0_isMan at h
  split at h
  · exact ⟨_, _, rfl, by rw [h.1]; exact xG_0⟩
  · exact h.elim
abbrev G_X0_isMan (E : zEnv) (b : Nat) : zΓ zX := [(237, false, 3, (T_X0_isIn E b))]
theorem Z_X0_isMan_0 {σ : Type} {ret : Option FieldType} {hp : Instr → List Value → σ → (List Value → σ → Prop) → Prop} {K : Option Value → σ → Prop} {S : Nat → zL → List Value → σ → Prop} {L : zL} {s : σ} {st : List Value} : zone ret hp K cX0_isMan S 0 L st s = (zldi L 1 fun v => S 1 L (v :: st) s) := zone_of dX0_isMan_0 rfl
theorem Z_X0_isMan_1 {σ : Type} {ret : Option FieldType} {hp : Instr → List Value → σ → (List Value → σ → Prop) → Prop} {K : Option Value → σ → Prop} {S : Nat → zL → List Value → σ → Prop} {L : zL} {s : σ} {st : List Value} : zone ret hp K cX0_isMan S 1 L st s = (S 2 L (.int 0 :: st) s) := zone_iconst dX0_isMan_1 (by decide)
theorem Z_X0_isMan_2 {σ : Type} {ret : Option FieldType} {hp : Instr → List Value → σ → (List Value → σ → Prop) → Prop} {K : Option Value → σ → Prop} {S : Nat → zL → List Value → σ → Prop} {L : zL} {s : σ} {st : List Value} : zone ret hp K cX0_isMan S 2 L st s = (zlda L 0 fun v => S 3 L (v :: st) s) := zone_of dX0_isMan_2 rfl
theorem Z_X0_isMan_3 {σ : Type} {ret : Option FieldType} {hp : Instr → List Value → σ → (List Value → σ → Prop) → Prop} {K : Option Value → σ → Prop} {S : Nat → zL → List Value → σ → Prop} {L : zL} {s : σ} {st : List Value} : zone ret hp K cX0_isMan S 3 L st s = (hp (.getfield 396) st s (fun st' s' => S 6 L st' s')) := zone_of dX0_isMan_3 rfl
theorem Z_X0_isMan_6 {σ : Type} {ret : Option FieldType} {hp : Instr → List Value → σ → (List Value → σ → Prop) → Prop} {K : Option Value → σ → Prop} {S : Nat → zL → List Value → σ → Prop} {L : zL} {s : σ} {st : List Value} : zone ret hp K cX0_isMan S 6 L st s = (S 7 L (.int 1 :: st) s) := zone_iconst dX0_isMan_6 (by decide)
theorem Z_X0_isMan_7 {σ : Type} {ret : Option FieldType} {hp : Instr → List Value → σ → (List Value → σ → Prop) → Prop} {K : Option Value → σ → Prop} {S : Nat → zL → List Value → σ → Prop} {L : zL} {s : σ} {st : List Value} : zone ret hp K cX0_isMan S 7 L st s = (zb2 st fun x y r => S 8 L (.int (x - y) :: r) s) := zone_of dX0_isMan_7 rfl
theorem Z_X0_isMan_8 {σ : Type} {ret : Option FieldType} {hp : Instr → List Value → σ → (List Value → σ → Prop) → Prop} {K : Option Value → σ → Prop} {S : Nat → zL → List Value → σ → Prop} {L : zL} {s : σ} {st : List Value} : zone ret hp K cX0_isMan S 8 L st s = (hp (.invokestatic 237) st s (fun st' s' => S 11 L st' s')) := zone_of dX0_isMan_8 rfl
theorem Z_X0_isMan_11 {σ : Type} {ret : Option FieldType} {hp : Instr → List Value → σ → (List Value → σ → Prop) → Prop} {K : Option Value → σ → Prop} {S : Nat → zL → List Value → σ → Prop} {L : zL} {s : σ} {v : Int32} : zone ret hp K cX0_isMan S 11 L [.int v] s = (zretI ret v ∧ K (some (.int v)) s) := zone_of dX0_isMan_11 rfl
theorem CC_X0_isMan_237 {E : zEnv} {b : Nat} {a0 a1 a2 : Value} {r : List Value} {s : zX} {k : List Value → zX → Prop} : xhp E b rt1 (G_X0_isMan E b) (.invokestatic 237) (a2 :: a1 :: a0 :: r) s k = (zfew r 8 = true ∧ (T_X0_isIn E b) [a0, a1, a2] s (fun v s' => zpush v r (fun q => k q s'))) := xcS rfl rfl
set_option maxRecDepth 100000 in
set_option maxHeartbeats 4000000 in
theorem B_X0_isMan (E : zEnv) (b : Nat) (t : Int32) (s : zX) (K : Option Value → zX → Prop) (hP : True) (hK : K (some (.int (zbi (yin t 0 (s.I 28 - 1))))) (s)) (hKM : ∀ v u m, K v (xM u m) = K v u) (S : Nat → zL → List Value → zX → Prop) (hm : zMono (xhp E b rt1 (G_X0_isMan E b))) (hc : zClosed (some .boolean) (xhp E b rt1 (G_X0_isMan E b)) K cX0_isMan S) (hSM : ∀ pc L st u m, S pc L st (xM u m) = S pc L st u) : S 0 [some (.ref b), some (.int t)] [] s := by
  refine zgo hm hc (fun _ => false) 40 ?_
  simp (config := {decide := true, maxSteps := 1000000}) (disch := first | rfl | with_unfolding_all rfl | omega | assumption | with_unfolding_all assumption | decide) only [↓Z_X0_isMan_0, ↓Z_X0_isMan_1, ↓Z_X0_isMan_2, ↓Z_X0_isMan_3, ↓Z_X0_isMan_6, ↓Z_X0_isMan_7, ↓Z_X0_isMan_8, ↓Z_X0_isMan_11, ↓reduceIte, ↓zrun_stop, ↓zrun_step, ↓zb2_i, ↓zb1_i, ↓zldi_0, ↓zldi_s, ↓zlda_0, ↓zlda_n, ↓zlda_s, ↓zsc_0, ↓zsc_s, ↓zsti_c, ↓zsta_r, ↓zsta_n, ↓zic_0, ↓zic_s, ↓zpush_s, ↓zpush_n, ↓zfew_0, ↓zfew_i, ↓zfew_r, ↓zfew_n, ↓xg1_396, ↓CC_X0_isMan_237, ↓TE_X0_isIn, zcat_int, zcat_ref, zcat_null, zret_int, zret_b0, zret_b1, zret_b, Nat.reduceAdd, Nat.reduceSub, Nat.reduceLT, Nat.reduceEqDiff, Nat.reduceBEq, Nat.reduceBNe, true_and, and_true, if_true, if_false, Bool.false_eq_true, Bool.true_eq_false, Bool.or_self, Bool.or_false, Bool.or_true, Bool.false_or, Bool.true_or, zbi_e0, zbi_e1, eq_self, reduceCtorEq, Fin.isValue, zent, List.map_cons, List.map_nil, List.length_cons, List.length_nil, List.replicate, List.cons_append, List.nil_append, List.append_nil, Nat.zero_add, Nat.add_zero, zF_1, zF_2, zA_1, zA_2s, zA_2n, zB_1, zB_2s, zB_2n, not_true_eq_false, not_false_eq_true, Int32.reduceLT, Int32.reduceAdd, Int32.reduceSub, Int32.reduceMul, ne_eq, Int32.reduceToNatClampNeg, zlit_vp, nI_al, nI_la, nI_lm, nI_ml, nI_ltl, nI_llt, nI_eql, nI_lt2, nI_eq2, nI_vp, nI_cl, nI_add, pk_mul, nI_divl, nI_sub2, nI_lsub, nI_ne0l, nI_1, nI_pred, pk_m1, upd_s, upd_n, Nat.lt_irrefl, decide_eq_false_iff_not, decide_eq_true_eq, ite_not, ite_self, Nat.reducePow, Nat.reduceMul, xI_s, xI_o, xI_A, xI_V, xI_n, xI_g, xI_m, xA_I, xA_s, xA_o, xA_V, xA_n, xA_g, xA_m, xB_I, xB_s, xB_o, xB_V, xB_n, xB_g, xB_m, xV_I, xV_A, xV_s, xV_o, xV_n, xV_g, xV_m, xM_I, xM_A, xM_V, xM_n, xM_g, xM_m, xAy_l, xAl_y, xBl_y, xBy_l, xAy_j, xBy_j, xIy_l, xIl_y, xIy_j, xw_I, xw_A, xw_B, xw_V, xyn_y, xlt_nI]
  exact hK
theorem MS_X0_isMan {l : Launch} {E : zEnv} {b0 b : Nat} : zMS l E b0 1 yX0_isMan (ws_ yX0_isMan cX0_isMan 2 (some .boolean)) 0 0 (xlf E b (T_X0_isMan E b)) := by
  refine X_MS (own := 1) (tb := rt1) (Γ := G_X0_isMan E b) rfl (by decide) rt1_ok (xΓok_cons (xinv.S (n := 3) MS_X0_isIn Tm_X0_isIn (by decide) (by decide) (lw_S q530 q531 q154 q532) (by decide +kernel)) xΓok_nil) ?_ ?_
  · intro as s K hT_
    obtain ⟨t, rfl, hP, hK⟩ := TC_X0_isMan hT_
    refine ⟨by show 2 ≤ 2; decide, fun v hv => ?_⟩
    simp only [List.mem_cons, List.not_mem_nil, or_false] at hv
    rcases hv with rfl | rfl <;> rfl
  · intro as s K hT_ hKM S hm hc hSM
    obtain ⟨t, rfl, hP, hK⟩ := TC_X0_isMan hT_
    exact B_X0_isMan E b t s K hP hK hKM S hm hc hSM
/-! records -/
def P_X5_kind (E : zEnv) (b : Nat) (a : Nat)  (s : zX) : Prop := xisW b s.g a
def Q_X5_kind (E : zEnv) (b : Nat) (a : Nat)  (s : zX) (K : Option Value → zX → Prop) : Prop := K (some (.int (xint (s.g a) 0))) (s)
def T_X5_kind (E : zEnv) (b : Nat) : zT zX := fun as s K => match as with
  | [.ref a_] => xis b s 5 a_ ∧ P_X5_kind E b a_  s ∧ Q_X5_kind E b a_  s K
  | _ => False
theorem TE_X5_kind {E : zEnv} {b : Nat} {a : Nat} {s : zX} {K : Option Value → zX → Prop} : T_X5_kind E b [.ref a] s K = (xis b s 5 a ∧ (xisW b s.g a) ∧ (K (some (.int (xint (s.g a) 0))) (s))) := by
  exact rfl
theorem Tm_X5_kind {E : zEnv} {b : Nat} : zTm (T_X5_kind E b) := by
  intro as s K K' hk h
  unfold T_X5_kind at h ⊢
  split at h
  · exact ⟨h.1, h.2.1, hk _ _ (h.2.2)⟩
  · exact h.elim
theorem TC_X5_kind {E : zEnv} {b : Nat} {as : List Value} {s : zX} {K : Option Value → zX → Prop} (h : T_X5_kind E b as s K) : ∃ (a : Nat) , as = [.ref a] ∧ xis b s 5 a ∧ P_X5_kind E b a  s ∧ Q_X5_kind E b a  s K := by
  unfold T_X5_kind at h
  split at h
  · exact ⟨_, rfl, h⟩
  · exact h.elim
theorem Tr_X5_kind {E : zEnv} {b : Nat} : xrc E b 5 (T_X5_kind E b) := by
  intro as s K h
  unfold T_X5_kind at h
  split at h
  · exact ⟨_, h.1.2.choose, rfl, by rw [xG_free h.1.1]; exact h.1.2.choose_spec⟩
  · exact h.elim
abbrev G_X5_kind (E : zEnv) (b : Nat) : zΓ zX := []
theorem Z_X5_kind_0 {σ : Type} {ret : Option FieldType} {hp : Instr → List Value → σ → (List Value → σ → Prop) → Prop} {K : Option Value → σ → Prop} {S : Nat → zL → List Value → σ → Prop} {L : zL} {s : σ} {st : List Value} : zone ret hp K cX5_kind S 0 L st s = (zlda L 0 fun v => S 1 L (v :: st) s) := zone_of dX5_kind_0 rfl
theorem Z_X5_kind_1 {σ : Type} {ret : Option FieldType} {hp : Instr → List Value → σ → (List Value → σ → Prop) → Prop} {K : Option Value → σ → Prop} {S : Nat → zL → List Value → σ → Prop} {L : zL} {s : σ} {st : List Value} : zone ret hp K cX5_kind S 1 L st s = (hp (.getfield 7) st s (fun st' s' => S 4 L st' s')) := zone_of dX5_kind_1 rfl
theorem Z_X5_kind_4 {σ : Type} {ret : Option FieldType} {hp : Instr → List Value → σ → (List Value → σ → Prop) → Prop} {K : Option Value → σ → Prop} {S : Nat → zL → List Value → σ → Prop} {L : zL} {s : σ} {v : Int32} : zone ret hp K cX5_kind S 4 L [.int v] s = (zretI ret v ∧ K (some (.int v)) s) := zone_of dX5_kind_4 rfl
set_option maxRecDepth 100000 in
set_option maxHeartbeats 4000000 in
theorem B_X5_kind (E : zEnv) (b : Nat) (a : Nat)  (s : zX) (K : Option Value → zX → Prop) (hX : xis b s 5 a) (hP : xisW b s.g a) (hK : K (some (.int (xint (s.g a) 0))) (s)) (hKM : ∀ v u m, K v (xM u m) = K v u) (S : Nat → zL → List Value → zX → Prop) (hm : zMono (xhp E b rt5 (G_X5_kind E b))) (hc : zClosed (some .int) (xhp E b rt5 (G_X5_kind E b)) K cX5_kind S) (hSM : ∀ pc L st u m, S pc L st (xM u m) = S pc L st u) : S 0 [some (.ref a)] [] s := by
  obtain ⟨hf, x, y, z, e⟩ := hP
  rw [e] at hK
  refine zgo hm hc (fun _ => false) 40 ?_
  simp (config := {decide := true, maxSteps := 1000000}) (disch := first | rfl | with_unfolding_all rfl | omega | assumption | with_unfolding_all assumption | decide) only [↓Z_X5_kind_0, ↓Z_X5_kind_1, ↓Z_X5_kind_4, ↓reduceIte, ↓zrun_stop, ↓zrun_step, ↓zb2_i, ↓zb1_i, ↓zldi_0, ↓zldi_s, ↓zlda_0, ↓zlda_n, ↓zlda_s, ↓zsc_0, ↓zsc_s, ↓zsti_c, ↓zsta_r, ↓zsta_n, ↓zic_0, ↓zic_s, ↓zpush_s, ↓zpush_n, ↓zfew_0, ↓zfew_i, ↓zfew_r, ↓zfew_n, zcat_int, zcat_ref, zcat_null, zret_int, zret_b0, zret_b1, zret_b, Nat.reduceAdd, Nat.reduceSub, Nat.reduceLT, Nat.reduceEqDiff, Nat.reduceBEq, Nat.reduceBNe, true_and, and_true, if_true, if_false, Bool.false_eq_true, Bool.true_eq_false, Bool.or_self, Bool.or_false, Bool.or_true, Bool.false_or, Bool.true_or, zbi_e0, zbi_e1, eq_self, reduceCtorEq, Fin.isValue, zent, List.map_cons, List.map_nil, List.length_cons, List.length_nil, List.replicate, List.cons_append, List.nil_append, List.append_nil, Nat.zero_add, Nat.add_zero, zF_1, zF_2, zA_1, zA_2s, zA_2n, zB_1, zB_2s, zB_2n, not_true_eq_false, not_false_eq_true, Int32.reduceLT, Int32.reduceAdd, Int32.reduceSub, Int32.reduceMul, ne_eq, Int32.reduceToNatClampNeg, zlit_vp, nI_al, nI_la, nI_lm, nI_ml, nI_ltl, nI_llt, nI_eql, nI_lt2, nI_eq2, nI_vp, nI_cl, nI_add, pk_mul, nI_divl, nI_sub2, nI_lsub, nI_ne0l, nI_1, nI_pred, pk_m1, upd_s, upd_n, Nat.lt_irrefl, decide_eq_false_iff_not, decide_eq_true_eq, ite_not, ite_self, Nat.reducePow, Nat.reduceMul, xI_s, xI_o, xI_A, xI_V, xI_n, xI_g, xI_m, xA_I, xA_s, xA_o, xA_V, xA_n, xA_g, xA_m, xB_I, xB_s, xB_o, xB_V, xB_n, xB_g, xB_m, xV_I, xV_A, xV_s, xV_o, xV_n, xV_g, xV_m, xM_I, xM_A, xM_V, xM_n, xM_g, xM_m, xAy_l, xAl_y, xBl_y, xBy_l, xAy_j, xBy_j, xIy_l, xIl_y, xIy_j, xw_I, xw_A, xw_B, xw_V, xyn_y, xlt_nI, (xo5_7 hf e rfl)]
  exact hK
theorem MS_X5_kind {l : Launch} {E : zEnv} {b0 b : Nat} : zMS l E b0 0 yX5_kind (ws_ yX5_kind cX5_kind 1 (some .int)) 0 0 (xlf E b (T_X5_kind E b)) := by
  refine X_MS (own := 5) (tb := rt5) (Γ := G_X5_kind E b) rfl (by decide) rt5_ok xΓok_nil ?_ ?_
  · intro as s K hT_
    obtain ⟨a, rfl, hX, hP, hK⟩ := TC_X5_kind hT_
    refine ⟨by show 1 ≤ 1; decide, fun v hv => ?_⟩
    simp only [List.mem_cons, List.not_mem_nil, or_false] at hv
    rcases hv with rfl <;> rfl
  · intro as s K hT_ hKM S hm hc hSM
    obtain ⟨a, rfl, hX, hP, hK⟩ := TC_X5_kind hT_
    exact B_X5_kind E b a  s K hX hP hK hKM S hm hc hSM
def P_X5_takes (E : zEnv) (b : Nat) (a : Nat)  (s : zX) : Prop := xisW b s.g a
def Q_X5_takes (E : zEnv) (b : Nat) (a : Nat)  (s : zX) (K : Option Value → zX → Prop) : Prop := K (some (.int (xint (s.g a) 1))) (s)
def T_X5_takes (E : zEnv) (b : Nat) : zT zX := fun as s K => match as with
  | [.ref a_] => xis b s 5 a_ ∧ P_X5_takes E b a_  s ∧ Q_X5_takes E b a_  s K
  | _ => False
theorem TE_X5_takes {E : zEnv} {b : Nat} {a : Nat} {s : zX} {K : Option Value → zX → Prop} : T_X5_takes E b [.ref a] s K = (xis b s 5 a ∧ (xisW b s.g a) ∧ (K (some (.int (xint (s.g a) 1))) (s))) := by
  exact rfl
theorem Tm_X5_takes {E : zEnv} {b : Nat} : zTm (T_X5_takes E b) := by
  intro as s K K' hk h
  unfold T_X5_takes at h ⊢
  split at h
  · exact ⟨h.1, h.2.1, hk _ _ (h.2.2)⟩
  · exact h.elim
theorem TC_X5_takes {E : zEnv} {b : Nat} {as : List Value} {s : zX} {K : Option Value → zX → Prop} (h : T_X5_takes E b as s K) : ∃ (a : Nat) , as = [.ref a] ∧ xis b s 5 a ∧ P_X5_takes E b a  s ∧ Q_X5_takes E b a  s K := by
  unfold T_X5_takes at h
  split at h
  · exact ⟨_, rfl, h⟩
  · exact h.elim
theorem Tr_X5_takes {E : zEnv} {b : Nat} : xrc E b 5 (T_X5_takes E b) := by
  intro as s K h
  unfold T_X5_takes at h
  split at h
  · exact ⟨_, h.1.2.choose, rfl, by rw [xG_free h.1.1]; exact h.1.2.choose_spec⟩
  · exact h.elim
abbrev G_X5_takes (E : zEnv) (b : Nat) : zΓ zX := []
theorem Z_X5_takes_0 {σ : Type} {ret : Option FieldType} {hp : Instr → List Value → σ → (List Value → σ → Prop) → Prop} {K : Option Value → σ → Prop} {S : Nat → zL → List Value → σ → Prop} {L : zL} {s : σ} {st : List Value} : zone ret hp K cX5_takes S 0 L st s = (zlda L 0 fun v => S 1 L (v :: st) s) := zone_of dX5_takes_0 rfl
theorem Z_X5_takes_1 {σ : Type} {ret : Option FieldType} {hp : Instr → List Value → σ → (List Value → σ → Prop) → Prop} {K : Option Value → σ → Prop} {S : Nat → zL → List Value → σ → Prop} {L : zL} {s : σ} {st : List Value} : zone ret hp K cX5_takes S 1 L st s = (hp (.getfield 13) st s (fun st' s' => S 4 L st' s')) := zone_of dX5_takes_1 rfl
theorem Z_X5_takes_4 {σ : Type} {ret : Option FieldType} {hp : Instr → List Value → σ → (List Value → σ → Prop) → Prop} {K : Option Value → σ → Prop} {S : Nat → zL → List Value → σ → Prop} {L : zL} {s : σ} {v : Int32} : zone ret hp K cX5_takes S 4 L [.int v] s = (zretI ret v ∧ K (some (.int v)) s) := zone_of dX5_takes_4 rfl
set_option maxRecDepth 100000 in
set_option maxHeartbeats 4000000 in
theorem B_X5_takes (E : zEnv) (b : Nat) (a : Nat)  (s : zX) (K : Option Value → zX → Prop) (hX : xis b s 5 a) (hP : xisW b s.g a) (hK : K (some (.int (xint (s.g a) 1))) (s)) (hKM : ∀ v u m, K v (xM u m) = K v u) (S : Nat → zL → List Value → zX → Prop) (hm : zMono (xhp E b rt5 (G_X5_takes E b))) (hc : zClosed (some .int) (xhp E b rt5 (G_X5_takes E b)) K cX5_takes S) (hSM : ∀ pc L st u m, S pc L st (xM u m) = S pc L st u) : S 0 [some (.ref a)] [] s := by
  obtain ⟨hf, x, y, z, e⟩ := hP
  rw [e] at hK
  refine zgo hm hc (fun _ => false) 40 ?_
  simp (config := {decide := true, maxSteps := 1000000}) (disch := first | rfl | with_unfolding_all rfl | omega | assumption | with_unfolding_all assumption | decide) only [↓Z_X5_takes_0, ↓Z_X5_takes_1, ↓Z_X5_takes_4, ↓reduceIte, ↓zrun_stop, ↓zrun_step, ↓zb2_i, ↓zb1_i, ↓zldi_0, ↓zldi_s, ↓zlda_0, ↓zlda_n, ↓zlda_s, ↓zsc_0, ↓zsc_s, ↓zsti_c, ↓zsta_r, ↓zsta_n, ↓zic_0, ↓zic_s, ↓zpush_s, ↓zpush_n, ↓zfew_0, ↓zfew_i, ↓zfew_r, ↓zfew_n, zcat_int, zcat_ref, zcat_null, zret_int, zret_b0, zret_b1, zret_b, Nat.reduceAdd, Nat.reduceSub, Nat.reduceLT, Nat.reduceEqDiff, Nat.reduceBEq, Nat.reduceBNe, true_and, and_true, if_true, if_false, Bool.false_eq_true, Bool.true_eq_false, Bool.or_self, Bool.or_false, Bool.or_true, Bool.false_or, Bool.true_or, zbi_e0, zbi_e1, eq_self, reduceCtorEq, Fin.isValue, zent, List.map_cons, List.map_nil, List.length_cons, List.length_nil, List.replicate, List.cons_append, List.nil_append, List.append_nil, Nat.zero_add, Nat.add_zero, zF_1, zF_2, zA_1, zA_2s, zA_2n, zB_1, zB_2s, zB_2n, not_true_eq_false, not_false_eq_true, Int32.reduceLT, Int32.reduceAdd, Int32.reduceSub, Int32.reduceMul, ne_eq, Int32.reduceToNatClampNeg, zlit_vp, nI_al, nI_la, nI_lm, nI_ml, nI_ltl, nI_llt, nI_eql, nI_lt2, nI_eq2, nI_vp, nI_cl, nI_add, pk_mul, nI_divl, nI_sub2, nI_lsub, nI_ne0l, nI_1, nI_pred, pk_m1, upd_s, upd_n, Nat.lt_irrefl, decide_eq_false_iff_not, decide_eq_true_eq, ite_not, ite_self, Nat.reducePow, Nat.reduceMul, xI_s, xI_o, xI_A, xI_V, xI_n, xI_g, xI_m, xA_I, xA_s, xA_o, xA_V, xA_n, xA_g, xA_m, xB_I, xB_s, xB_o, xB_V, xB_n, xB_g, xB_m, xV_I, xV_A, xV_s, xV_o, xV_n, xV_g, xV_m, xM_I, xM_A, xM_V, xM_n, xM_g, xM_m, xAy_l, xAl_y, xBl_y, xBy_l, xAy_j, xBy_j, xIy_l, xIl_y, xIy_j, xw_I, xw_A, xw_B, xw_V, xyn_y, xlt_nI, (xo5_13 hf e rfl)]
  exact hK
theorem MS_X5_takes {l : Launch} {E : zEnv} {b0 b : Nat} : zMS l E b0 0 yX5_takes (ws_ yX5_takes cX5_takes 1 (some .int)) 0 0 (xlf E b (T_X5_takes E b)) := by
  refine X_MS (own := 5) (tb := rt5) (Γ := G_X5_takes E b) rfl (by decide) rt5_ok xΓok_nil ?_ ?_
  · intro as s K hT_
    obtain ⟨a, rfl, hX, hP, hK⟩ := TC_X5_takes hT_
    refine ⟨by show 1 ≤ 1; decide, fun v hv => ?_⟩
    simp only [List.mem_cons, List.not_mem_nil, or_false] at hv
    rcases hv with rfl <;> rfl
  · intro as s K hT_ hKM S hm hc hSM
    obtain ⟨a, rfl, hX, hP, hK⟩ := TC_X5_takes hT_
    exact B_X5_takes E b a  s K hX hP hK hKM S hm hc hSM
def P_X5_after (E : zEnv) (b : Nat) (a : Nat)  (s : zX) : Prop := xisW b s.g a
def Q_X5_after (E : zEnv) (b : Nat) (a : Nat)  (s : zX) (K : Option Value → zX → Prop) : Prop := K (some (.int (xint (s.g a) 2))) (s)
def T_X5_after (E : zEnv) (b : Nat) : zT zX := fun as s K => match as with
  | [.ref a_] => xis b s 5 a_ ∧ P_X5_after E b a_  s ∧ Q_X5_after E b a_  s K
  | _ => False
theorem TE_X5_after {E : zEnv} {b : Nat} {a : Nat} {s : zX} {K : Option Value → zX → Prop} : T_X5_after E b [.ref a] s K = (xis b s 5 a ∧ (xisW b s.g a) ∧ (K (some (.int (xint (s.g a) 2))) (s))) := by
  exact rfl
theorem Tm_X5_after {E : zEnv} {b : Nat} : zTm (T_X5_after E b) := by
  intro as s K K' hk h
  unfold T_X5_after at h ⊢
  split at h
  · exact ⟨h.1, h.2.1, hk _ _ (h.2.2)⟩
  · exact h.elim
theorem TC_X5_after {E : zEnv} {b : Nat} {as : List Value} {s : zX} {K : Option Value → zX → Prop} (h : T_X5_after E b as s K) : ∃ (a : Nat) , as = [.ref a] ∧ xis b s 5 a ∧ P_X5_after E b a  s ∧ Q_X5_after E b a  s K := by
  unfold T_X5_after at h
  split at h
  · exact ⟨_, rfl, h⟩
  · exact h.elim
theorem Tr_X5_after {E : zEnv} {b : Nat} : xrc E b 5 (T_X5_after E b) := by
  intro as s K h
  unfold T_X5_after at h
  split at h
  · exact ⟨_, h.1.2.choose, rfl, by rw [xG_free h.1.1]; exact h.1.2.choose_spec⟩
  · exact h.elim
abbrev G_X5_after (E : zEnv) (b : Nat) : zΓ zX := []
theorem Z_X5_after_0 {σ : Type} {ret : Option FieldType} {hp : Instr → List Value → σ → (List Value → σ → Prop) → Prop} {K : Option Value → σ → Prop} {S : Nat → zL → List Value → σ → Prop} {L : zL} {s : σ} {st : List Value} : zone ret hp K cX5_after S 0 L st s = (zlda L 0 fun v => S 1 L (v :: st) s) := zone_of dX5_after_0 rfl
theorem Z_X5_after_1 {σ : Type} {ret : Option FieldType} {hp : Instr → List Value → σ → (List Value → σ → Prop) → Prop} {K : Option Value → σ → Prop} {S : Nat → zL → List Value → σ → Prop} {L : zL} {s : σ} {st : List Value} : zone ret hp K cX5_after S 1 L st s = (hp (.getfield 16) st s (fun st' s' => S 4 L st' s')) := zone_of dX5_after_1 rfl
theorem Z_X5_after_4 {σ : Type} {ret : Option FieldType} {hp : Instr → List Value → σ → (List Value → σ → Prop) → Prop} {K : Option Value → σ → Prop} {S : Nat → zL → List Value → σ → Prop} {L : zL} {s : σ} {v : Int32} : zone ret hp K cX5_after S 4 L [.int v] s = (zretI ret v ∧ K (some (.int v)) s) := zone_of dX5_after_4 rfl
set_option maxRecDepth 100000 in
set_option maxHeartbeats 4000000 in
theorem B_X5_after (E : zEnv) (b : Nat) (a : Nat)  (s : zX) (K : Option Value → zX → Prop) (hX : xis b s 5 a) (hP : xisW b s.g a) (hK : K (some (.int (xint (s.g a) 2))) (s)) (hKM : ∀ v u m, K v (xM u m) = K v u) (S : Nat → zL → List Value → zX → Prop) (hm : zMono (xhp E b rt5 (G_X5_after E b))) (hc : zClosed (some .int) (xhp E b rt5 (G_X5_after E b)) K cX5_after S) (hSM : ∀ pc L st u m, S pc L st (xM u m) = S pc L st u) : S 0 [some (.ref a)] [] s := by
  obtain ⟨hf, x, y, z, e⟩ := hP
  rw [e] at hK
  refine zgo hm hc (fun _ => false) 40 ?_
  simp (config := {decide := true, maxSteps := 1000000}) (disch := first | rfl | with_unfolding_all rfl | omega | assumption | with_unfolding_all assumption | decide) only [↓Z_X5_after_0, ↓Z_X5_after_1, ↓Z_X5_after_4, ↓reduceIte, ↓zrun_stop, ↓zrun_step, ↓zb2_i, ↓zb1_i, ↓zldi_0, ↓zldi_s, ↓zlda_0, ↓zlda_n, ↓zlda_s, ↓zsc_0, ↓zsc_s, ↓zsti_c, ↓zsta_r, ↓zsta_n, ↓zic_0, ↓zic_s, ↓zpush_s, ↓zpush_n, ↓zfew_0, ↓zfew_i, ↓zfew_r, ↓zfew_n, zcat_int, zcat_ref, zcat_null, zret_int, zret_b0, zret_b1, zret_b, Nat.reduceAdd, Nat.reduceSub, Nat.reduceLT, Nat.reduceEqDiff, Nat.reduceBEq, Nat.reduceBNe, true_and, and_true, if_true, if_false, Bool.false_eq_true, Bool.true_eq_false, Bool.or_self, Bool.or_false, Bool.or_true, Bool.false_or, Bool.true_or, zbi_e0, zbi_e1, eq_self, reduceCtorEq, Fin.isValue, zent, List.map_cons, List.map_nil, List.length_cons, List.length_nil, List.replicate, List.cons_append, List.nil_append, List.append_nil, Nat.zero_add, Nat.add_zero, zF_1, zF_2, zA_1, zA_2s, zA_2n, zB_1, zB_2s, zB_2n, not_true_eq_false, not_false_eq_true, Int32.reduceLT, Int32.reduceAdd, Int32.reduceSub, Int32.reduceMul, ne_eq, Int32.reduceToNatClampNeg, zlit_vp, nI_al, nI_la, nI_lm, nI_ml, nI_ltl, nI_llt, nI_eql, nI_lt2, nI_eq2, nI_vp, nI_cl, nI_add, pk_mul, nI_divl, nI_sub2, nI_lsub, nI_ne0l, nI_1, nI_pred, pk_m1, upd_s, upd_n, Nat.lt_irrefl, decide_eq_false_iff_not, decide_eq_true_eq, ite_not, ite_self, Nat.reducePow, Nat.reduceMul, xI_s, xI_o, xI_A, xI_V, xI_n, xI_g, xI_m, xA_I, xA_s, xA_o, xA_V, xA_n, xA_g, xA_m, xB_I, xB_s, xB_o, xB_V, xB_n, xB_g, xB_m, xV_I, xV_A, xV_s, xV_o, xV_n, xV_g, xV_m, xM_I, xM_A, xM_V, xM_n, xM_g, xM_m, xAy_l, xAl_y, xBl_y, xBy_l, xAy_j, xBy_j, xIy_l, xIl_y, xIy_j, xw_I, xw_A, xw_B, xw_V, xyn_y, xlt_nI, (xo5_16 hf e rfl)]
  exact hK
theorem MS_X5_after {l : Launch} {E : zEnv} {b0 b : Nat} : zMS l E b0 0 yX5_after (ws_ yX5_after cX5_after 1 (some .int)) 0 0 (xlf E b (T_X5_after E b)) := by
  refine X_MS (own := 5) (tb := rt5) (Γ := G_X5_after E b) rfl (by decide) rt5_ok xΓok_nil ?_ ?_
  · intro as s K hT_
    obtain ⟨a, rfl, hX, hP, hK⟩ := TC_X5_after hT_
    refine ⟨by show 1 ≤ 1; decide, fun v hv => ?_⟩
    simp only [List.mem_cons, List.not_mem_nil, or_false] at hv
    rcases hv with rfl <;> rfl
  · intro as s K hT_ hKM S hm hc hSM
    obtain ⟨a, rfl, hX, hP, hK⟩ := TC_X5_after hT_
    exact B_X5_after E b a  s K hX hP hK hKM S hm hc hSM
def P_X6_tool (E : zEnv) (b : Nat) (a : Nat)  (s : zX) : Prop := xisR b s.g a
def Q_X6_tool (E : zEnv) (b : Nat) (a : Nat)  (s : zX) (K : Option Value → zX → Prop) : Prop := K (some (.int (xint (s.g a) 0))) (s)
def T_X6_tool (E : zEnv) (b : Nat) : zT zX := fun as s K => match as with
  | [.ref a_] => xis b s 6 a_ ∧ P_X6_tool E b a_  s ∧ Q_X6_tool E b a_  s K
  | _ => False
theorem TE_X6_tool {E : zEnv} {b : Nat} {a : Nat} {s : zX} {K : Option Value → zX → Prop} : T_X6_tool E b [.ref a] s K = (xis b s 6 a ∧ (xisR b s.g a) ∧ (K (some (.int (xint (s.g a) 0))) (s))) := by
  exact rfl
theorem Tm_X6_tool {E : zEnv} {b : Nat} : zTm (T_X6_tool E b) := by
  intro as s K K' hk h
  unfold T_X6_tool at h ⊢
  split at h
  · exact ⟨h.1, h.2.1, hk _ _ (h.2.2)⟩
  · exact h.elim
theorem TC_X6_tool {E : zEnv} {b : Nat} {as : List Value} {s : zX} {K : Option Value → zX → Prop} (h : T_X6_tool E b as s K) : ∃ (a : Nat) , as = [.ref a] ∧ xis b s 6 a ∧ P_X6_tool E b a  s ∧ Q_X6_tool E b a  s K := by
  unfold T_X6_tool at h
  split at h
  · exact ⟨_, rfl, h⟩
  · exact h.elim
theorem Tr_X6_tool {E : zEnv} {b : Nat} : xrc E b 6 (T_X6_tool E b) := by
  intro as s K h
  unfold T_X6_tool at h
  split at h
  · exact ⟨_, h.1.2.choose, rfl, by rw [xG_free h.1.1]; exact h.1.2.choose_spec⟩
  · exact h.elim
abbrev G_X6_tool (E : zEnv) (b : Nat) : zΓ zX := []
theorem Z_X6_tool_0 {σ : Type} {ret : Option FieldType} {hp : Instr → List Value → σ → (List Value → σ → Prop) → Prop} {K : Option Value → σ → Prop} {S : Nat → zL → List Value → σ → Prop} {L : zL} {s : σ} {st : List Value} : zone ret hp K cX6_tool S 0 L st s = (zlda L 0 fun v => S 1 L (v :: st) s) := zone_of dX6_tool_0 rfl
theorem Z_X6_tool_1 {σ : Type} {ret : Option FieldType} {hp : Instr → List Value → σ → (List Value → σ → Prop) → Prop} {K : Option Value → σ → Prop} {S : Nat → zL → List Value → σ → Prop} {L : zL} {s : σ} {st : List Value} : zone ret hp K cX6_tool S 1 L st s = (hp (.getfield 7) st s (fun st' s' => S 4 L st' s')) := zone_of dX6_tool_1 rfl
theorem Z_X6_tool_4 {σ : Type} {ret : Option FieldType} {hp : Instr → List Value → σ → (List Value → σ → Prop) → Prop} {K : Option Value → σ → Prop} {S : Nat → zL → List Value → σ → Prop} {L : zL} {s : σ} {v : Int32} : zone ret hp K cX6_tool S 4 L [.int v] s = (zretI ret v ∧ K (some (.int v)) s) := zone_of dX6_tool_4 rfl
set_option maxRecDepth 100000 in
set_option maxHeartbeats 4000000 in
theorem B_X6_tool (E : zEnv) (b : Nat) (a : Nat)  (s : zX) (K : Option Value → zX → Prop) (hX : xis b s 6 a) (hP : xisR b s.g a) (hK : K (some (.int (xint (s.g a) 0))) (s)) (hKM : ∀ v u m, K v (xM u m) = K v u) (S : Nat → zL → List Value → zX → Prop) (hm : zMono (xhp E b rt6 (G_X6_tool E b))) (hc : zClosed (some .int) (xhp E b rt6 (G_X6_tool E b)) K cX6_tool S) (hSM : ∀ pc L st u m, S pc L st (xM u m) = S pc L st u) : S 0 [some (.ref a)] [] s := by
  obtain ⟨hf, x, y, z, u, v, e⟩ := hP
  rw [e] at hK
  refine zgo hm hc (fun _ => false) 40 ?_
  simp (config := {decide := true, maxSteps := 1000000}) (disch := first | rfl | with_unfolding_all rfl | omega | assumption | with_unfolding_all assumption | decide) only [↓Z_X6_tool_0, ↓Z_X6_tool_1, ↓Z_X6_tool_4, ↓reduceIte, ↓zrun_stop, ↓zrun_step, ↓zb2_i, ↓zb1_i, ↓zldi_0, ↓zldi_s, ↓zlda_0, ↓zlda_n, ↓zlda_s, ↓zsc_0, ↓zsc_s, ↓zsti_c, ↓zsta_r, ↓zsta_n, ↓zic_0, ↓zic_s, ↓zpush_s, ↓zpush_n, ↓zfew_0, ↓zfew_i, ↓zfew_r, ↓zfew_n, zcat_int, zcat_ref, zcat_null, zret_int, zret_b0, zret_b1, zret_b, Nat.reduceAdd, Nat.reduceSub, Nat.reduceLT, Nat.reduceEqDiff, Nat.reduceBEq, Nat.reduceBNe, true_and, and_true, if_true, if_false, Bool.false_eq_true, Bool.true_eq_false, Bool.or_self, Bool.or_false, Bool.or_true, Bool.false_or, Bool.true_or, zbi_e0, zbi_e1, eq_self, reduceCtorEq, Fin.isValue, zent, List.map_cons, List.map_nil, List.length_cons, List.length_nil, List.replicate, List.cons_append, List.nil_append, List.append_nil, Nat.zero_add, Nat.add_zero, zF_1, zF_2, zA_1, zA_2s, zA_2n, zB_1, zB_2s, zB_2n, not_true_eq_false, not_false_eq_true, Int32.reduceLT, Int32.reduceAdd, Int32.reduceSub, Int32.reduceMul, ne_eq, Int32.reduceToNatClampNeg, zlit_vp, nI_al, nI_la, nI_lm, nI_ml, nI_ltl, nI_llt, nI_eql, nI_lt2, nI_eq2, nI_vp, nI_cl, nI_add, pk_mul, nI_divl, nI_sub2, nI_lsub, nI_ne0l, nI_1, nI_pred, pk_m1, upd_s, upd_n, Nat.lt_irrefl, decide_eq_false_iff_not, decide_eq_true_eq, ite_not, ite_self, Nat.reducePow, Nat.reduceMul, xI_s, xI_o, xI_A, xI_V, xI_n, xI_g, xI_m, xA_I, xA_s, xA_o, xA_V, xA_n, xA_g, xA_m, xB_I, xB_s, xB_o, xB_V, xB_n, xB_g, xB_m, xV_I, xV_A, xV_s, xV_o, xV_n, xV_g, xV_m, xM_I, xM_A, xM_V, xM_n, xM_g, xM_m, xAy_l, xAl_y, xBl_y, xBy_l, xAy_j, xBy_j, xIy_l, xIl_y, xIy_j, xw_I, xw_A, xw_B, xw_V, xyn_y, xlt_nI, (xo6_7 hf e rfl)]
  exact hK
theorem MS_X6_tool {l : Launch} {E : zEnv} {b0 b : Nat} : zMS l E b0 0 yX6_tool (ws_ yX6_tool cX6_tool 1 (some .int)) 0 0 (xlf E b (T_X6_tool E b)) := by
  refine X_MS (own := 6) (tb := rt6) (Γ := G_X6_tool E b) rfl (by decide) rt6_ok xΓok_nil ?_ ?_
  · intro as s K hT_
    obtain ⟨a, rfl, hX, hP, hK⟩ := TC_X6_tool hT_
    refine ⟨by show 1 ≤ 1; decide, fun v hv => ?_⟩
    simp only [List.mem_cons, List.not_mem_nil, or_false] at hv
    rcases hv with rfl <;> rfl
  · intro as s K hT_ hKM S hm hc hSM
    obtain ⟨a, rfl, hX, hP, hK⟩ := TC_X6_tool hT_
    exact B_X6_tool E b a  s K hX hP hK hKM S hm hc hSM
def P_X6_man (E : zEnv) (b : Nat) (a : Nat)  (s : zX) : Prop := xisR b s.g a
def Q_X6_man (E : zEnv) (b : Nat) (a : Nat)  (s : zX) (K : Option Value → zX → Prop) : Prop := K (some (.int (xint (s.g a) 1))) (s)
def T_X6_man (E : zEnv) (b : Nat) : zT zX := fun as s K => match as with
  | [.ref a_] => xis b s 6 a_ ∧ P_X6_man E b a_  s ∧ Q_X6_man E b a_  s K
  | _ => False
theorem TE_X6_man {E : zEnv} {b : Nat} {a : Nat} {s : zX} {K : Option Value → zX → Prop} : T_X6_man E b [.ref a] s K = (xis b s 6 a ∧ (xisR b s.g a) ∧ (K (some (.int (xint (s.g a) 1))) (s))) := by
  exact rfl
theorem Tm_X6_man {E : zEnv} {b : Nat} : zTm (T_X6_man E b) := by
  intro as s K K' hk h
  unfold T_X6_man at h ⊢
  split at h
  · exact ⟨h.1, h.2.1, hk _ _ (h.2.2)⟩
  · exact h.elim
theorem TC_X6_man {E : zEnv} {b : Nat} {as : List Value} {s : zX} {K : Option Value → zX → Prop} (h : T_X6_man E b as s K) : ∃ (a : Nat) , as = [.ref a] ∧ xis b s 6 a ∧ P_X6_man E b a  s ∧ Q_X6_man E b a  s K := by
  unfold T_X6_man at h
  split at h
  · exact ⟨_, rfl, h⟩
  · exact h.elim
theorem Tr_X6_man {E : zEnv} {b : Nat} : xrc E b 6 (T_X6_man E b) := by
  intro as s K h
  unfold T_X6_man at h
  split at h
  · exact ⟨_, h.1.2.choose, rfl, by rw [xG_free h.1.1]; exact h.1.2.choose_spec⟩
  · exact h.elim
abbrev G_X6_man (E : zEnv) (b : Nat) : zΓ zX := []
theorem Z_X6_man_0 {σ : Type} {ret : Option FieldType} {hp : Instr → List Value → σ → (List Value → σ → Prop) → Prop} {K : Option Value → σ → Prop} {S : Nat → zL → List Value → σ → Prop} {L : zL} {s : σ} {st : List Value} : zone ret hp K cX6_man S 0 L st s = (zlda L 0 fun v => S 1 L (v :: st) s) := zone_of dX6_man_0 rfl
theorem Z_X6_man_1 {σ : Type} {ret : Option FieldType} {hp : Instr → List Value → σ → (List Value → σ → Prop) → Prop} {K : Option Value → σ → Prop} {S : Nat → zL → List Value → σ → Prop} {L : zL} {s : σ} {st : List Value} : zone ret hp K cX6_man S 1 L st s = (hp (.getfield 13) st s (fun st' s' => S 4 L st' s')) := zone_of dX6_man_1 rfl
theorem Z_X6_man_4 {σ : Type} {ret : Option FieldType} {hp : Instr → List Value → σ → (List Value → σ → Prop) → Prop} {K : Option Value → σ → Prop} {S : Nat → zL → List Value → σ → Prop} {L : zL} {s : σ} {v : Int32} : zone ret hp K cX6_man S 4 L [.int v] s = (zretI ret v ∧ K (some (.int v)) s) := zone_of dX6_man_4 rfl
set_option maxRecDepth 100000 in
set_option maxHeartbeats 4000000 in
theorem B_X6_man (E : zEnv) (b : Nat) (a : Nat)  (s : zX) (K : Option Value → zX → Prop) (hX : xis b s 6 a) (hP : xisR b s.g a) (hK : K (some (.int (xint (s.g a) 1))) (s)) (hKM : ∀ v u m, K v (xM u m) = K v u) (S : Nat → zL → List Value → zX → Prop) (hm : zMono (xhp E b rt6 (G_X6_man E b))) (hc : zClosed (some .int) (xhp E b rt6 (G_X6_man E b)) K cX6_man S) (hSM : ∀ pc L st u m, S pc L st (xM u m) = S pc L st u) : S 0 [some (.ref a)] [] s := by
  obtain ⟨hf, x, y, z, u, v, e⟩ := hP
  rw [e] at hK
  refine zgo hm hc (fun _ => false) 40 ?_
  simp (config := {decide := true, maxSteps := 1000000}) (disch := first | rfl | with_unfolding_all rfl | omega | assumption | with_unfolding_all assumption | decide) only [↓Z_X6_man_0, ↓Z_X6_man_1, ↓Z_X6_man_4, ↓reduceIte, ↓zrun_stop, ↓zrun_step, ↓zb2_i, ↓zb1_i, ↓zldi_0, ↓zldi_s, ↓zlda_0, ↓zlda_n, ↓zlda_s, ↓zsc_0, ↓zsc_s, ↓zsti_c, ↓zsta_r, ↓zsta_n, ↓zic_0, ↓zic_s, ↓zpush_s, ↓zpush_n, ↓zfew_0, ↓zfew_i, ↓zfew_r, ↓zfew_n, zcat_int, zcat_ref, zcat_null, zret_int, zret_b0, zret_b1, zret_b, Nat.reduceAdd, Nat.reduceSub, Nat.reduceLT, Nat.reduceEqDiff, Nat.reduceBEq, Nat.reduceBNe, true_and, and_true, if_true, if_false, Bool.false_eq_true, Bool.true_eq_false, Bool.or_self, Bool.or_false, Bool.or_true, Bool.false_or, Bool.true_or, zbi_e0, zbi_e1, eq_self, reduceCtorEq, Fin.isValue, zent, List.map_cons, List.map_nil, List.length_cons, List.length_nil, List.replicate, List.cons_append, List.nil_append, List.append_nil, Nat.zero_add, Nat.add_zero, zF_1, zF_2, zA_1, zA_2s, zA_2n, zB_1, zB_2s, zB_2n, not_true_eq_false, not_false_eq_true, Int32.reduceLT, Int32.reduceAdd, Int32.reduceSub, Int32.reduceMul, ne_eq, Int32.reduceToNatClampNeg, zlit_vp, nI_al, nI_la, nI_lm, nI_ml, nI_ltl, nI_llt, nI_eql, nI_lt2, nI_eq2, nI_vp, nI_cl, nI_add, pk_mul, nI_divl, nI_sub2, nI_lsub, nI_ne0l, nI_1, nI_pred, pk_m1, upd_s, upd_n, Nat.lt_irrefl, decide_eq_false_iff_not, decide_eq_true_eq, ite_not, ite_self, Nat.reducePow, Nat.reduceMul, xI_s, xI_o, xI_A, xI_V, xI_n, xI_g, xI_m, xA_I, xA_s, xA_o, xA_V, xA_n, xA_g, xA_m, xB_I, xB_s, xB_o, xB_V, xB_n, xB_g, xB_m, xV_I, xV_A, xV_s, xV_o, xV_n, xV_g, xV_m, xM_I, xM_A, xM_V, xM_n, xM_g, xM_m, xAy_l, xAl_y, xBl_y, xBy_l, xAy_j, xBy_j, xIy_l, xIl_y, xIy_j, xw_I, xw_A, xw_B, xw_V, xyn_y, xlt_nI, (xo6_13 hf e rfl)]
  exact hK
theorem MS_X6_man {l : Launch} {E : zEnv} {b0 b : Nat} : zMS l E b0 0 yX6_man (ws_ yX6_man cX6_man 1 (some .int)) 0 0 (xlf E b (T_X6_man E b)) := by
  refine X_MS (own := 6) (tb := rt6) (Γ := G_X6_man E b) rfl (by decide) rt6_ok xΓok_nil ?_ ?_
  · intro as s K hT_
    obtain ⟨a, rfl, hX, hP, hK⟩ := TC_X6_man hT_
    refine ⟨by show 1 ≤ 1; decide, fun v hv => ?_⟩
    simp only [List.mem_cons, List.not_mem_nil, or_false] at hv
    rcases hv with rfl <;> rfl
  · intro as s K hT_ hKM S hm hc hSM
    obtain ⟨a, rfl, hX, hP, hK⟩ := TC_X6_man hT_
    exact B_X6_man E b a  s K hX hP hK hKM S hm hc hSM
def P_X6_work (E : zEnv) (b : Nat) (a : Nat)  (s : zX) : Prop := xisR b s.g a
def Q_X6_work (E : zEnv) (b : Nat) (a : Nat)  (s : zX) (K : Option Value → zX → Prop) : Prop := K (some (.int (xint (s.g a) 2))) (s)
def T_X6_work (E : zEnv) (b : Nat) : zT zX := fun as s K => match as with
  | [.ref a_] => xis b s 6 a_ ∧ P_X6_work E b a_  s ∧ Q_X6_work E b a_  s K
  | _ => False
theorem TE_X6_work {E : zEnv} {b : Nat} {a : Nat} {s : zX} {K : Option Value → zX → Prop} : T_X6_work E b [.ref a] s K = (xis b s 6 a ∧ (xisR b s.g a) ∧ (K (some (.int (xint (s.g a) 2))) (s))) := by
  exact rfl
theorem Tm_X6_work {E : zEnv} {b : Nat} : zTm (T_X6_work E b) := by
  intro as s K K' hk h
  unfold T_X6_work at h ⊢
  split at h
  · exact ⟨h.1, h.2.1, hk _ _ (h.2.2)⟩
  · exact h.elim
theorem TC_X6_work {E : zEnv} {b : Nat} {as : List Value} {s : zX} {K : Option Value → zX → Prop} (h : T_X6_work E b as s K) : ∃ (a : Nat) , as = [.ref a] ∧ xis b s 6 a ∧ P_X6_work E b a  s ∧ Q_X6_work E b a  s K := by
  unfold T_X6_work at h
  split at h
  · exact ⟨_, rfl, h⟩
  · exact h.elim
theorem Tr_X6_work {E : zEnv} {b : Nat} : xrc E b 6 (T_X6_work E b) := by
  intro as s K h
  unfold T_X6_work at h
  split at h
  · exact ⟨_, h.1.2.choose, rfl, by rw [xG_free h.1.1]; exact h.1.2.choose_spec⟩
  · exact h.elim
abbrev G_X6_work (E : zEnv) (b : Nat) : zΓ zX := []
theorem Z_X6_work_0 {σ : Type} {ret : Option FieldType} {hp : Instr → List Value → σ → (List Value → σ → Prop) → Prop} {K : Option Value → σ → Prop} {S : Nat → zL → List Value → σ → Prop} {L : zL} {s : σ} {st : List Value} : zone ret hp K cX6_work S 0 L st s = (zlda L 0 fun v => S 1 L (v :: st) s) := zone_of dX6_work_0 rfl
theorem Z_X6_work_1 {σ : Type} {ret : Option FieldType} {hp : Instr → List Value → σ → (List Value → σ → Prop) → Prop} {K : Option Value → σ → Prop} {S : Nat → zL → List Value → σ → Prop} {L : zL} {s : σ} {st : List Value} : zone ret hp K cX6_work S 1 L st s = (hp (.getfield 16) st s (fun st' s' => S 4 L st' s')) := zone_of dX6_work_1 rfl
theorem Z_X6_work_4 {σ : Type} {ret : Option FieldType} {hp : Instr → List Value → σ → (List Value → σ → Prop) → Prop} {K : Option Value → σ → Prop} {S : Nat → zL → List Value → σ → Prop} {L : zL} {s : σ} {v : Int32} : zone ret hp K cX6_work S 4 L [.int v] s = (zretI ret v ∧ K (some (.int v)) s) := zone_of dX6_work_4 rfl
set_option maxRecDepth 100000 in
set_option maxHeartbeats 4000000 in
theorem B_X6_work (E : zEnv) (b : Nat) (a : Nat)  (s : zX) (K : Option Value → zX → Prop) (hX : xis b s 6 a) (hP : xisR b s.g a) (hK : K (some (.int (xint (s.g a) 2))) (s)) (hKM : ∀ v u m, K v (xM u m) = K v u) (S : Nat → zL → List Value → zX → Prop) (hm : zMono (xhp E b rt6 (G_X6_work E b))) (hc : zClosed (some .int) (xhp E b rt6 (G_X6_work E b)) K cX6_work S) (hSM : ∀ pc L st u m, S pc L st (xM u m) = S pc L st u) : S 0 [some (.ref a)] [] s := by
  obtain ⟨hf, x, y, z, u, v, e⟩ := hP
  rw [e] at hK
  refine zgo hm hc (fun _ => false) 40 ?_
  simp (config := {decide := true, maxSteps := 1000000}) (disch := first | rfl | with_unfolding_all rfl | omega | assumption | with_unfolding_all assumption | decide) only [↓Z_X6_work_0, ↓Z_X6_work_1, ↓Z_X6_work_4, ↓reduceIte, ↓zrun_stop, ↓zrun_step, ↓zb2_i, ↓zb1_i, ↓zldi_0, ↓zldi_s, ↓zlda_0, ↓zlda_n, ↓zlda_s, ↓zsc_0, ↓zsc_s, ↓zsti_c, ↓zsta_r, ↓zsta_n, ↓zic_0, ↓zic_s, ↓zpush_s, ↓zpush_n, ↓zfew_0, ↓zfew_i, ↓zfew_r, ↓zfew_n, zcat_int, zcat_ref, zcat_null, zret_int, zret_b0, zret_b1, zret_b, Nat.reduceAdd, Nat.reduceSub, Nat.reduceLT, Nat.reduceEqDiff, Nat.reduceBEq, Nat.reduceBNe, true_and, and_true, if_true, if_false, Bool.false_eq_true, Bool.true_eq_false, Bool.or_self, Bool.or_false, Bool.or_true, Bool.false_or, Bool.true_or, zbi_e0, zbi_e1, eq_self, reduceCtorEq, Fin.isValue, zent, List.map_cons, List.map_nil, List.length_cons, List.length_nil, List.replicate, List.cons_append, List.nil_append, List.append_nil, Nat.zero_add, Nat.add_zero, zF_1, zF_2, zA_1, zA_2s, zA_2n, zB_1, zB_2s, zB_2n, not_true_eq_false, not_false_eq_true, Int32.reduceLT, Int32.reduceAdd, Int32.reduceSub, Int32.reduceMul, ne_eq, Int32.reduceToNatClampNeg, zlit_vp, nI_al, nI_la, nI_lm, nI_ml, nI_ltl, nI_llt, nI_eql, nI_lt2, nI_eq2, nI_vp, nI_cl, nI_add, pk_mul, nI_divl, nI_sub2, nI_lsub, nI_ne0l, nI_1, nI_pred, pk_m1, upd_s, upd_n, Nat.lt_irrefl, decide_eq_false_iff_not, decide_eq_true_eq, ite_not, ite_self, Nat.reducePow, Nat.reduceMul, xI_s, xI_o, xI_A, xI_V, xI_n, xI_g, xI_m, xA_I, xA_s, xA_o, xA_V, xA_n, xA_g, xA_m, xB_I, xB_s, xB_o, xB_V, xB_n, xB_g, xB_m, xV_I, xV_A, xV_s, xV_o, xV_n, xV_g, xV_m, xM_I, xM_A, xM_V, xM_n, xM_g, xM_m, xAy_l, xAl_y, xBl_y, xBy_l, xAy_j, xBy_j, xIy_l, xIl_y, xIy_j, xw_I, xw_A, xw_B, xw_V, xyn_y, xlt_nI, (xo6_16 hf e rfl)]
  exact hK
theorem MS_X6_work {l : Launch} {E : zEnv} {b0 b : Nat} : zMS l E b0 0 yX6_work (ws_ yX6_work cX6_work 1 (some .int)) 0 0 (xlf E b (T_X6_work E b)) := by
  refine X_MS (own := 6) (tb := rt6) (Γ := G_X6_work E b) rfl (by decide) rt6_ok xΓok_nil ?_ ?_
  · intro as s K hT_
    obtain ⟨a, rfl, hX, hP, hK⟩ := TC_X6_work hT_
    refine ⟨by show 1 ≤ 1; decide, fun v hv => ?_⟩
    simp only [List.mem_cons, List.not_mem_nil, or_false] at hv
    rcases hv with rfl <;> rfl
  · intro as s K hT_ hKM S hm hc hSM
    obtain ⟨a, rfl, hX, hP, hK⟩ := TC_X6_work hT_
    exact B_X6_work E b a  s K hX hP hK hKM S hm hc hSM
def P_X6_isOn (E : zEnv) (b : Nat) (a : Nat) (h : Int32) (s : zX) : Prop := xisR b s.g a
def Q_X6_isOn (E : zEnv) (b : Nat) (a : Nat) (h : Int32) (s : zX) (K : Option Value → zX → Prop) : Prop := K (some (.int (zbi (!decide (h < xint (s.g a) 3) && decide (h < xint (s.g a) 3 + xint (s.g a) 4))))) (s)
def T_X6_isOn (E : zEnv) (b : Nat) : zT zX := fun as s K => match as with
  | [.ref a_, .int h] => xis b s 6 a_ ∧ P_X6_isOn E b a_ h s ∧ Q_X6_isOn E b a_ h s K
  | _ => False
theorem TE_X6_isOn {E : zEnv} {b : Nat} {a : Nat} {h : Int32} {s : zX} {K : Option Value → zX → Prop} : T_X6_isOn E b [.ref a, .int h] s K = (xis b s 6 a ∧ (xisR b s.g a) ∧ (K (some (.int (zbi (!decide (h < xint (s.g a) 3) && decide (h < xint (s.g a) 3 + xint (s.g a) 4))))) (s))) := by
  exact rfl
theorem Tm_X6_isOn {E : zEnv} {b : Nat} : zTm (T_X6_isOn E b) := by
  intro as s K K' hk h
  unfold T_X6_isOn at h ⊢
  split at h
  · exact ⟨h.1, h.2.1, hk _ _ (h.2.2)⟩
  · exact h.elim
theorem TC_X6_isOn {E : zEnv} {b : Nat} {as : List Value} {s : zX} {K : Option Value → zX → Prop} (h : T_X6_isOn E b as s K) : ∃ (a : Nat) (h : Int32), as = [.ref a, .int h] ∧ xis b s 6 a ∧ P_X6_isOn E b a h s ∧ Q_X6_isOn E b a h s K := by
  unfold T_X6_isOn at h
  split at h
  · exact ⟨_, _, rfl, h⟩
  · exact h.elim
theorem Tr_X6_isOn {E : zEnv} {b : Nat} : xrc E b 6 (T_X6_isOn E b) := by
  intro as s K h
  unfold T_X6_isOn at h
  split at h
  · exact ⟨_, h.1.2.choose, rfl, by rw [xG_free h.1.1]; exact h.1.2.choose_spec⟩
  · exact h.elim
abbrev G_X6_isOn (E : zEnv) (b : Nat) : zΓ zX := []
theorem Z_X6_isOn_0 {σ : Type} {ret : Option FieldType} {hp : Instr → List Value → σ → (List Value → σ → Prop) → Prop} {K : Option Value → σ → Prop} {S : Nat → zL → List Value → σ → Prop} {L : zL} {s : σ} {st : List Value} : zone ret hp K cX6_isOn S 0 L st s = (zldi L 1 fun v => S 1 L (v :: st) s) := zone_of dX6_isOn_0 rfl
theorem Z_X6_isOn_1 {σ : Type} {ret : Option FieldType} {hp : Instr → List Value → σ → (List Value → σ → Prop) → Prop} {K : Option Value → σ → Prop} {S : Nat → zL → List Value → σ → Prop} {L : zL} {s : σ} {st : List Value} : zone ret hp K cX6_isOn S 1 L st s = (zlda L 0 fun v => S 2 L (v :: st) s) := zone_of dX6_isOn_1 rfl
theorem Z_X6_isOn_2 {σ : Type} {ret : Option FieldType} {hp : Instr → List Value → σ → (List Value → σ → Prop) → Prop} {K : Option Value → σ → Prop} {S : Nat → zL → List Value → σ → Prop} {L : zL} {s : σ} {st : List Value} : zone ret hp K cX6_isOn S 2 L st s = (hp (.getfield 19) st s (fun st' s' => S 5 L st' s')) := zone_of dX6_isOn_2 rfl
theorem Z_X6_isOn_5 {σ : Type} {ret : Option FieldType} {hp : Instr → List Value → σ → (List Value → σ → Prop) → Prop} {K : Option Value → σ → Prop} {S : Nat → zL → List Value → σ → Prop} {L : zL} {s : σ} {st : List Value} : zone ret hp K cX6_isOn S 5 L st s = (zb2 st fun x y r => if x < y then S 25 L r s else S 8 L r s) := zone_ic_lt dX6_isOn_5 (by decide)
theorem Z_X6_isOn_8 {σ : Type} {ret : Option FieldType} {hp : Instr → List Value → σ → (List Value → σ → Prop) → Prop} {K : Option Value → σ → Prop} {S : Nat → zL → List Value → σ → Prop} {L : zL} {s : σ} {st : List Value} : zone ret hp K cX6_isOn S 8 L st s = (zldi L 1 fun v => S 9 L (v :: st) s) := zone_of dX6_isOn_8 rfl
theorem Z_X6_isOn_9 {σ : Type} {ret : Option FieldType} {hp : Instr → List Value → σ → (List Value → σ → Prop) → Prop} {K : Option Value → σ → Prop} {S : Nat → zL → List Value → σ → Prop} {L : zL} {s : σ} {st : List Value} : zone ret hp K cX6_isOn S 9 L st s = (zlda L 0 fun v => S 10 L (v :: st) s) := zone_of dX6_isOn_9 rfl
theorem Z_X6_isOn_10 {σ : Type} {ret : Option FieldType} {hp : Instr → List Value → σ → (List Value → σ → Prop) → Prop} {K : Option Value → σ → Prop} {S : Nat → zL → List Value → σ → Prop} {L : zL} {s : σ} {st : List Value} : zone ret hp K cX6_isOn S 10 L st s = (hp (.getfield 19) st s (fun st' s' => S 13 L st' s')) := zone_of dX6_isOn_10 rfl
theorem Z_X6_isOn_13 {σ : Type} {ret : Option FieldType} {hp : Instr → List Value → σ → (List Value → σ → Prop) → Prop} {K : Option Value → σ → Prop} {S : Nat → zL → List Value → σ → Prop} {L : zL} {s : σ} {st : List Value} : zone ret hp K cX6_isOn S 13 L st s = (zlda L 0 fun v => S 14 L (v :: st) s) := zone_of dX6_isOn_13 rfl
theorem Z_X6_isOn_14 {σ : Type} {ret : Option FieldType} {hp : Instr → List Value → σ → (List Value → σ → Prop) → Prop} {K : Option Value → σ → Prop} {S : Nat → zL → List Value → σ → Prop} {L : zL} {s : σ} {st : List Value} : zone ret hp K cX6_isOn S 14 L st s = (hp (.getfield 22) st s (fun st' s' => S 17 L st' s')) := zone_of dX6_isOn_14 rfl
theorem Z_X6_isOn_17 {σ : Type} {ret : Option FieldType} {hp : Instr → List Value → σ → (List Value → σ → Prop) → Prop} {K : Option Value → σ → Prop} {S : Nat → zL → List Value → σ → Prop} {L : zL} {s : σ} {st : List Value} : zone ret hp K cX6_isOn S 17 L st s = (zb2 st fun x y r => S 18 L (.int (x + y) :: r) s) := zone_of dX6_isOn_17 rfl
theorem Z_X6_isOn_18 {σ : Type} {ret : Option FieldType} {hp : Instr → List Value → σ → (List Value → σ → Prop) → Prop} {K : Option Value → σ → Prop} {S : Nat → zL → List Value → σ → Prop} {L : zL} {s : σ} {st : List Value} : zone ret hp K cX6_isOn S 18 L st s = (zb2 st fun x y r => if x < y then S 21 L r s else S 25 L r s) := zone_ic_ge dX6_isOn_18 (by decide)
theorem Z_X6_isOn_21 {σ : Type} {ret : Option FieldType} {hp : Instr → List Value → σ → (List Value → σ → Prop) → Prop} {K : Option Value → σ → Prop} {S : Nat → zL → List Value → σ → Prop} {L : zL} {s : σ} {st : List Value} : zone ret hp K cX6_isOn S 21 L st s = (S 22 L (.int 1 :: st) s) := zone_iconst dX6_isOn_21 (by decide)
theorem Z_X6_isOn_22 {σ : Type} {ret : Option FieldType} {hp : Instr → List Value → σ → (List Value → σ → Prop) → Prop} {K : Option Value → σ → Prop} {S : Nat → zL → List Value → σ → Prop} {L : zL} {s : σ} {st : List Value} : zone ret hp K cX6_isOn S 22 L st s = (S 26 L st s) := zone_goto dX6_isOn_22 (by decide)
theorem Z_X6_isOn_25 {σ : Type} {ret : Option FieldType} {hp : Instr → List Value → σ → (List Value → σ → Prop) → Prop} {K : Option Value → σ → Prop} {S : Nat → zL → List Value → σ → Prop} {L : zL} {s : σ} {st : List Value} : zone ret hp K cX6_isOn S 25 L st s = (S 26 L (.int 0 :: st) s) := zone_iconst dX6_isOn_25 (by decide)
theorem Z_X6_isOn_26 {σ : Type} {ret : Option FieldType} {hp : Instr → List Value → σ → (List Value → σ → Prop) → Prop} {K : Option Value → σ → Prop} {S : Nat → zL → List Value → σ → Prop} {L : zL} {s : σ} {v : Int32} : zone ret hp K cX6_isOn S 26 L [.int v] s = (zretI ret v ∧ K (some (.int v)) s) := zone_of dX6_isOn_26 rfl
set_option maxRecDepth 100000 in
set_option maxHeartbeats 4000000 in
theorem B_X6_isOn (E : zEnv) (b : Nat) (a : Nat) (h : Int32) (s : zX) (K : Option Value → zX → Prop) (hX : xis b s 6 a) (hP : xisR b s.g a) (hK : K (some (.int (zbi (!decide (h < xint (s.g a) 3) && decide (h < xint (s.g a) 3 + xint (s.g a) 4))))) (s)) (hKM : ∀ v u m, K v (xM u m) = K v u) (S : Nat → zL → List Value → zX → Prop) (hm : zMono (xhp E b rt6 (G_X6_isOn E b))) (hc : zClosed (some .boolean) (xhp E b rt6 (G_X6_isOn E b)) K cX6_isOn S) (hSM : ∀ pc L st u m, S pc L st (xM u m) = S pc L st u) : S 0 [some (.ref a), some (.int h)] [] s := by
  obtain ⟨hf, x, y, z, u, v, e⟩ := hP
  rw [e] at hK
  have e1 : xint (some (.inr (6, [.int x, .int y, .int z, .int u, .int v]))) 3 = u := rfl
  have e2 : xint (some (.inr (6, [.int x, .int y, .int z, .int u, .int v]))) 4 = v := rfl
  rw [e1, e2] at hK
  refine zgo hm hc (fun _ => false) 40 ?_
  simp (config := {decide := true, maxSteps := 1000000}) (disch := first | rfl | with_unfolding_all rfl | omega | assumption | with_unfolding_all assumption | decide) only [↓Z_X6_isOn_0, ↓Z_X6_isOn_1, ↓Z_X6_isOn_2, ↓Z_X6_isOn_5, ↓Z_X6_isOn_8, ↓Z_X6_isOn_9, ↓Z_X6_isOn_10, ↓Z_X6_isOn_13, ↓Z_X6_isOn_14, ↓Z_X6_isOn_17, ↓Z_X6_isOn_18, ↓Z_X6_isOn_21, ↓Z_X6_isOn_22, ↓Z_X6_isOn_25, ↓Z_X6_isOn_26, ↓reduceIte, ↓zrun_stop, ↓zrun_step, ↓zb2_i, ↓zb1_i, ↓zldi_0, ↓zldi_s, ↓zlda_0, ↓zlda_n, ↓zlda_s, ↓zsc_0, ↓zsc_s, ↓zsti_c, ↓zsta_r, ↓zsta_n, ↓zic_0, ↓zic_s, ↓zpush_s, ↓zpush_n, ↓zfew_0, ↓zfew_i, ↓zfew_r, ↓zfew_n, zcat_int, zcat_ref, zcat_null, zret_int, zret_b0, zret_b1, zret_b, Nat.reduceAdd, Nat.reduceSub, Nat.reduceLT, Nat.reduceEqDiff, Nat.reduceBEq, Nat.reduceBNe, true_and, and_true, if_true, if_false, Bool.false_eq_true, Bool.true_eq_false, Bool.or_self, Bool.or_false, Bool.or_true, Bool.false_or, Bool.true_or, zbi_e0, zbi_e1, eq_self, reduceCtorEq, Fin.isValue, zent, List.map_cons, List.map_nil, List.length_cons, List.length_nil, List.replicate, List.cons_append, List.nil_append, List.append_nil, Nat.zero_add, Nat.add_zero, zF_1, zF_2, zA_1, zA_2s, zA_2n, zB_1, zB_2s, zB_2n, not_true_eq_false, not_false_eq_true, Int32.reduceLT, Int32.reduceAdd, Int32.reduceSub, Int32.reduceMul, ne_eq, Int32.reduceToNatClampNeg, zlit_vp, nI_al, nI_la, nI_lm, nI_ml, nI_ltl, nI_llt, nI_eql, nI_lt2, nI_eq2, nI_vp, nI_cl, nI_add, pk_mul, nI_divl, nI_sub2, nI_lsub, nI_ne0l, nI_1, nI_pred, pk_m1, upd_s, upd_n, Nat.lt_irrefl, decide_eq_false_iff_not, decide_eq_true_eq, ite_not, ite_self, Nat.reducePow, Nat.reduceMul, xI_s, xI_o, xI_A, xI_V, xI_n, xI_g, xI_m, xA_I, xA_s, xA_o, xA_V, xA_n, xA_g, xA_m, xB_I, xB_s, xB_o, xB_V, xB_n, xB_g, xB_m, xV_I, xV_A, xV_s, xV_o, xV_n, xV_g, xV_m, xM_I, xM_A, xM_V, xM_n, xM_g, xM_m, xAy_l, xAl_y, xBl_y, xBy_l, xAy_j, xBy_j, xIy_l, xIl_y, xIy_j, xw_I, xw_A, xw_B, xw_V, xyn_y, xlt_nI, (xo6_19 hf e rfl), (xo6_22 hf e rfl)]
  by_cases c1 : h < u <;> by_cases c2 : h < u + v <;> simp only [c1, c2, if_true, if_false, decide_true, decide_false, not_true_eq_false, not_false_eq_true, Bool.not_true, Bool.not_false, Bool.and_false, Bool.and_true, Bool.and_self, Bool.false_and, Bool.true_and, Bool.or_true, Bool.or_false, Bool.true_or, Bool.false_or, Bool.or_self, Bool.false_eq_true, Bool.true_eq_false, zbi_t, zbi_f, ite_self] at hK ⊢ <;> exact hK
theorem MS_X6_isOn {l : Launch} {E : zEnv} {b0 b : Nat} : zMS l E b0 0 yX6_isOn (ws_ yX6_isOn cX6_isOn 2 (some .boolean)) 0 0 (xlf E b (T_X6_isOn E b)) := by
  refine X_MS (own := 6) (tb := rt6) (Γ := G_X6_isOn E b) rfl (by decide) rt6_ok xΓok_nil ?_ ?_
  · intro as s K hT_
    obtain ⟨a, h, rfl, hX, hP, hK⟩ := TC_X6_isOn hT_
    refine ⟨by show 2 ≤ 2; decide, fun v hv => ?_⟩
    simp only [List.mem_cons, List.not_mem_nil, or_false] at hv
    rcases hv with rfl | rfl <;> rfl
  · intro as s K hT_ hKM S hm hc hSM
    obtain ⟨a, h, rfl, hX, hP, hK⟩ := TC_X6_isOn hT_
    exact B_X6_isOn E b a h s K hX hP hK hKM S hm hc hSM
