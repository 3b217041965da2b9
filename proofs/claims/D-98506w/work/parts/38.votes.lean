/-! votes: orders, power -/
def yfac : Nat → Int32
  | 0 => 1
  | n + 1 => if n + 1 < 2 then 1 else nI (n + 1) * yfac n
theorem vp_in_lt {n : Nat} {k : Nat} (h : vp_in (nI n) k) (hn : n < 1000) : n < k := by
  unfold vp_in at h
  rw [nI_clamp (by omega)] at h
  omega
theorem vp_in_mk {n : Nat} {k : Nat} (h : n < k) (hn : n < 1000) : vp_in (nI n) k := by
  unfold vp_in
  rw [nI_clamp (by omega)]
  have : ¬ nI n < 0 := nI_nlt (a := n) (b := 0) (Nat.zero_le _) (by omega)
  exact fun q => q.elim this (fun h => by omega)
def TR_X3_orders1 {σ : Type} (k_ : Nat) : zT σ := zp1 (fun n => vp_in n k_ ∧ vp_in n 9) (fun n => yfac n.toNatClampNeg)
abbrev G_X3_orders1 {σ : Type} (k_ : Nat) : zΓ σ := [(459, false, 1, TR_X3_orders1 k_)]
theorem Z_X3_orders1_0 {σ : Type} {ret : Option FieldType} {hp : Instr → List Value → σ → (List Value → σ → Prop) → Prop} {K : Option Value → σ → Prop} {S : Nat → zL → List Value → σ → Prop} {L : zL} {s : σ} {st : List Value} : zone ret hp K cX3_orders1 S 0 L st s = (zldi L 0 fun v => S 1 L (v :: st) s) := zone_of dX3_orders1_0 rfl
theorem Z_X3_orders1_1 {σ : Type} {ret : Option FieldType} {hp : Instr → List Value → σ → (List Value → σ → Prop) → Prop} {K : Option Value → σ → Prop} {S : Nat → zL → List Value → σ → Prop} {L : zL} {s : σ} {st : List Value} : zone ret hp K cX3_orders1 S 1 L st s = (S 2 L (.int 2 :: st) s) := zone_iconst dX3_orders1_1 (by decide)
theorem Z_X3_orders1_2 {σ : Type} {ret : Option FieldType} {hp : Instr → List Value → σ → (List Value → σ → Prop) → Prop} {K : Option Value → σ → Prop} {S : Nat → zL → List Value → σ → Prop} {L : zL} {s : σ} {st : List Value} : zone ret hp K cX3_orders1 S 2 L st s = (zb2 st fun x y r => if x < y then S 5 L r s else S 9 L r s) := zone_ic_ge dX3_orders1_2 (by decide)
theorem Z_X3_orders1_5 {σ : Type} {ret : Option FieldType} {hp : Instr → List Value → σ → (List Value → σ → Prop) → Prop} {K : Option Value → σ → Prop} {S : Nat → zL → List Value → σ → Prop} {L : zL} {s : σ} {st : List Value} : zone ret hp K cX3_orders1 S 5 L st s = (S 6 L (.int 1 :: st) s) := zone_iconst dX3_orders1_5 (by decide)
theorem Z_X3_orders1_6 {σ : Type} {ret : Option FieldType} {hp : Instr → List Value → σ → (List Value → σ → Prop) → Prop} {K : Option Value → σ → Prop} {S : Nat → zL → List Value → σ → Prop} {L : zL} {s : σ} {st : List Value} : zone ret hp K cX3_orders1 S 6 L st s = (S 17 L st s) := zone_goto dX3_orders1_6 (by decide)
theorem Z_X3_orders1_9 {σ : Type} {ret : Option FieldType} {hp : Instr → List Value → σ → (List Value → σ → Prop) → Prop} {K : Option Value → σ → Prop} {S : Nat → zL → List Value → σ → Prop} {L : zL} {s : σ} {st : List Value} : zone ret hp K cX3_orders1 S 9 L st s = (zldi L 0 fun v => S 10 L (v :: st) s) := zone_of dX3_orders1_9 rfl
theorem Z_X3_orders1_10 {σ : Type} {ret : Option FieldType} {hp : Instr → List Value → σ → (List Value → σ → Prop) → Prop} {K : Option Value → σ → Prop} {S : Nat → zL → List Value → σ → Prop} {L : zL} {s : σ} {st : List Value} : zone ret hp K cX3_orders1 S 10 L st s = (zldi L 0 fun v => S 11 L (v :: st) s) := zone_of dX3_orders1_10 rfl
theorem Z_X3_orders1_11 {σ : Type} {ret : Option FieldType} {hp : Instr → List Value → σ → (List Value → σ → Prop) → Prop} {K : Option Value → σ → Prop} {S : Nat → zL → List Value → σ → Prop} {L : zL} {s : σ} {st : List Value} : zone ret hp K cX3_orders1 S 11 L st s = (S 12 L (.int 1 :: st) s) := zone_iconst dX3_orders1_11 (by decide)
theorem Z_X3_orders1_12 {σ : Type} {ret : Option FieldType} {hp : Instr → List Value → σ → (List Value → σ → Prop) → Prop} {K : Option Value → σ → Prop} {S : Nat → zL → List Value → σ → Prop} {L : zL} {s : σ} {st : List Value} : zone ret hp K cX3_orders1 S 12 L st s = (zb2 st fun x y r => S 13 L (.int (x - y) :: r) s) := zone_of dX3_orders1_12 rfl
theorem Z_X3_orders1_13 {σ : Type} {ret : Option FieldType} {hp : Instr → List Value → σ → (List Value → σ → Prop) → Prop} {K : Option Value → σ → Prop} {S : Nat → zL → List Value → σ → Prop} {L : zL} {s : σ} {st : List Value} : zone ret hp K cX3_orders1 S 13 L st s = (hp (.invokestatic 459) st s (fun st' s' => S 16 L st' s')) := zone_of dX3_orders1_13 rfl
theorem Z_X3_orders1_16 {σ : Type} {ret : Option FieldType} {hp : Instr → List Value → σ → (List Value → σ → Prop) → Prop} {K : Option Value → σ → Prop} {S : Nat → zL → List Value → σ → Prop} {L : zL} {s : σ} {st : List Value} : zone ret hp K cX3_orders1 S 16 L st s = (zb2 st fun x y r => S 17 L (.int (x * y) :: r) s) := zone_of dX3_orders1_16 rfl
theorem Z_X3_orders1_17 {σ : Type} {ret : Option FieldType} {hp : Instr → List Value → σ → (List Value → σ → Prop) → Prop} {K : Option Value → σ → Prop} {S : Nat → zL → List Value → σ → Prop} {L : zL} {s : σ} {v : Int32} : zone ret hp K cX3_orders1 S 17 L [.int v] s = (zretI ret v ∧ K (some (.int v)) s) := zone_of dX3_orders1_17 rfl
theorem CC_X3_orders1_459 {k_ : Nat} {σ : Type} {a0 : Value} {r : List Value} {s : σ} {k : List Value → σ → Prop} : zcallS (G_X3_orders1 (σ := σ) k_) 459 (a0 :: r) s k = (zfew r 8 = true ∧ TR_X3_orders1 k_ [a0] s (fun v s' => zpush v r (fun q => k q s'))) := zcS_n rfl rfl
theorem TER_X3_orders1 {k_ : Nat} {σ : Type} {n : Int32} {s : σ} {K : Option Value → σ → Prop} : TR_X3_orders1 k_ [.int n] s K = ((fun n => vp_in n k_ ∧ vp_in n 9) n ∧ K (some (.int ((fun n => yfac n.toNatClampNeg) n))) s) := rfl
def T_X3_orders1 {σ : Type} : zT σ := TR_X3_orders1 9
theorem TE_X3_orders1 {σ : Type} {n : Int32} {s : σ} {K : Option Value → σ → Prop} : T_X3_orders1 [.int n] s K = ((fun n => vp_in n 9 ∧ vp_in n 9) n ∧ K (some (.int ((fun n => yfac n.toNatClampNeg) n))) s) := rfl
set_option maxRecDepth 100000 in
set_option maxHeartbeats 4000000 in
theorem B_X3_orders1 (k_ : Nat) {E : zEnv} (n : Int32) (s : zσ) (K : Option Value → zσ → Prop) (hT : TR_X3_orders1 (k_ + 1) [.int n] s K) (S : Nat → zL → List Value → zσ → Prop) (hm : zMono (zIhp (G_X3_orders1 (σ := zσ) k_))) (hc : zClosed (some .int) (zIhp (G_X3_orders1 (σ := zσ) k_)) K cX3_orders1 S) : S 0 (zent [.int n] 1) [] s := by
  obtain ⟨⟨hP, hP9⟩, hK⟩ := hT
  obtain ⟨N, hN, rfl⟩ := vp_in_of hP9 (by omega)
  have hlt := vp_in_lt hP (by omega)
  dsimp only at hK
  rw [nI_clamp (by omega)] at hK
  by_cases c : N < 2
  · have e : yfac N = 1 := by
      rcases (show N = 0 ∨ N = 1 by omega) with rfl | rfl <;> rfl
    rw [e] at hK
    refine zgo hm hc (fun _ => false) 40 ?_
    simp (config := {decide := true, maxSteps := 1000000}) (disch := first | rfl | decide | omega) only [↓Z_X3_orders1_0, ↓Z_X3_orders1_1, ↓Z_X3_orders1_2, ↓Z_X3_orders1_5, ↓Z_X3_orders1_6, ↓Z_X3_orders1_9, ↓Z_X3_orders1_10, ↓Z_X3_orders1_11, ↓Z_X3_orders1_12, ↓Z_X3_orders1_13, ↓Z_X3_orders1_16, ↓Z_X3_orders1_17, ↓reduceIte, ↓zrun_stop, ↓zrun_step, ↓zb2_i, ↓zb1_i, ↓zldi_0, ↓zldi_s, ↓zlda_0, ↓zlda_n, ↓zlda_s, ↓zsc_0, ↓zsc_s, ↓zsti_c, ↓zsta_r, ↓zsta_n, ↓zic_0, ↓zic_s, ↓zpush_s, ↓zpush_n, ↓zfew_0, ↓zfew_i, ↓zfew_r, ↓zfew_n, ↓zIhp_iS, ↓CC_X3_orders1_459, ↓TER_X3_orders1, zcat_int, zcat_ref, zcat_null, zret_int, zret_b0, zret_b1, zret_b, Nat.reduceAdd, Nat.reduceSub, Nat.reduceLT, Nat.reduceEqDiff, Nat.reduceBEq, Nat.reduceBNe, true_and, and_true, if_true, if_false, Bool.false_eq_true, Bool.true_eq_false, Bool.or_self, Bool.or_false, Bool.or_true, Bool.false_or, Bool.true_or, zbi_e0, zbi_e1, eq_self, reduceCtorEq, Fin.isValue, zent, List.map_cons, List.map_nil, List.length_cons, List.length_nil, List.replicate, List.cons_append, List.nil_append, List.append_nil, Nat.zero_add, Nat.add_zero, zF_1, zF_2, zA_1, zA_2s, zA_2n, zB_1, zB_2s, zB_2n, not_true_eq_false, not_false_eq_true, Int32.reduceLT, Int32.reduceAdd, Int32.reduceSub, Int32.reduceMul, ne_eq, Int32.reduceToNatClampNeg, zlit_vp, nI_al, nI_la, nI_lm, nI_ml, nI_ltl, nI_llt, nI_eql, nI_lt2, nI_eq2, nI_vp, nI_cl, nI_add, pk_mul, nI_divl, nI_sub2, nI_lsub, nI_ne0l, nI_1, nI_pred, pk_m1, upd_s, upd_n, Nat.lt_irrefl, decide_eq_false_iff_not, decide_eq_true_eq, ite_not, ite_self, Nat.reducePow, Nat.reduceMul, c]
    exact hK
  · obtain ⟨M, rfl⟩ : ∃ M, N = M + 1 := ⟨N - 1, by omega⟩
    rw [yfac, if_neg c] at hK
    have hM := vp_in_mk (n := M) (k := k_) (by omega) (by omega)
    refine zgo hm hc (fun _ => false) 40 ?_
    simp (config := {decide := true, maxSteps := 1000000}) (disch := first | rfl | decide | omega) only [↓Z_X3_orders1_0, ↓Z_X3_orders1_1, ↓Z_X3_orders1_2, ↓Z_X3_orders1_5, ↓Z_X3_orders1_6, ↓Z_X3_orders1_9, ↓Z_X3_orders1_10, ↓Z_X3_orders1_11, ↓Z_X3_orders1_12, ↓Z_X3_orders1_13, ↓Z_X3_orders1_16, ↓Z_X3_orders1_17, ↓reduceIte, ↓zrun_stop, ↓zrun_step, ↓zb2_i, ↓zb1_i, ↓zldi_0, ↓zldi_s, ↓zlda_0, ↓zlda_n, ↓zlda_s, ↓zsc_0, ↓zsc_s, ↓zsti_c, ↓zsta_r, ↓zsta_n, ↓zic_0, ↓zic_s, ↓zpush_s, ↓zpush_n, ↓zfew_0, ↓zfew_i, ↓zfew_r, ↓zfew_n, ↓zIhp_iS, ↓CC_X3_orders1_459, ↓TER_X3_orders1, zcat_int, zcat_ref, zcat_null, zret_int, zret_b0, zret_b1, zret_b, Nat.reduceAdd, Nat.reduceSub, Nat.reduceLT, Nat.reduceEqDiff, Nat.reduceBEq, Nat.reduceBNe, true_and, and_true, if_true, if_false, Bool.false_eq_true, Bool.true_eq_false, Bool.or_self, Bool.or_false, Bool.or_true, Bool.false_or, Bool.true_or, zbi_e0, zbi_e1, eq_self, reduceCtorEq, Fin.isValue, zent, List.map_cons, List.map_nil, List.length_cons, List.length_nil, List.replicate, List.cons_append, List.nil_append, List.append_nil, Nat.zero_add, Nat.add_zero, zF_1, zF_2, zA_1, zA_2s, zA_2n, zB_1, zB_2s, zB_2n, not_true_eq_false, not_false_eq_true, Int32.reduceLT, Int32.reduceAdd, Int32.reduceSub, Int32.reduceMul, ne_eq, Int32.reduceToNatClampNeg, zlit_vp, nI_al, nI_la, nI_lm, nI_ml, nI_ltl, nI_llt, nI_eql, nI_lt2, nI_eq2, nI_vp, nI_cl, nI_add, pk_mul, nI_divl, nI_sub2, nI_lsub, nI_ne0l, nI_1, nI_pred, pk_m1, upd_s, upd_n, Nat.lt_irrefl, decide_eq_false_iff_not, decide_eq_true_eq, ite_not, ite_self, Nat.reducePow, Nat.reduceMul, c, nI_sl, Nat.add_sub_cancel, hM]
    exact hK
theorem MSR_X3_orders1 {l : Launch} {E : zEnv} {b0 : Nat} (k_ : Nat) : zMS l E b0 (0 + k_) yX3_orders1 (ws_ yX3_orders1 cX3_orders1 1 (some .int)) 0 0 (TR_X3_orders1 k_) := by
  induction k_ with
  | zero =>
    refine zS_MS (Γ := []) (own := RX3) (na := 1) rfl (by decide) zIok_nil (by unfold TR_X3_orders1; exact zf1_a) (by decide) ?_
    intro as s K hT S hm hc
    have h0 := hT
    unfold TR_X3_orders1 at h0
    unfold zp1 zf1 at h0
    split at h0
    · exact absurd (vp_in_of h0.1.1 (by decide)) (by rintro ⟨i, hi, -⟩; omega)
    · exact h0.elim
  | succ k_ ih =>
    refine zS_MS (Γ := G_X3_orders1 k_) (own := RX3) (na := 1) rfl (by decide) (zIok_cons ⟨zf1_m, rfl, zInv.S ih (by omega) (by decide) (lw_S q1969 q1970 q158 q1971) (by show _ ∧ _ ∧ _ = some 1; decide +kernel)⟩ zIok_nil) (by unfold TR_X3_orders1; exact zf1_a) (by decide) ?_
    intro as s K hT S hm hc
    have h0 := hT
    unfold TR_X3_orders1 at h0
    unfold zp1 zf1 at h0
    split at h0
    · exact B_X3_orders1 k_ (E := E) _ s K hT S hm hc
    · exact h0.elim
theorem MS_X3_orders1 {l : Launch} {E : zEnv} {b0 : Nat} : zMS l E b0 9 yX3_orders1 (ws_ yX3_orders1 cX3_orders1 1 (some .int)) 0 0 T_X3_orders1 := MSR_X3_orders1 9
theorem IS_X3_orders1 {l : Launch} {E : zEnv} {b0 d0 : Nat} (hd : 9 + 1 ≤ d0) : zIokq l E b0 RX3 d0 (459, false, 1, T_X3_orders1) := ⟨zf1_m, rfl, zInv.S MS_X3_orders1 hd (by decide) (lw_S q1969 q1970 q158 q1971) (by decide +kernel)⟩
theorem IM_X3_orders1 {l : Launch} {E : zEnv} {b0 d0 : Nat} (hd : 9 + 1 ≤ d0) : zΓokq l E b0 d0 (459, false, 1, T_X3_orders1) := ⟨zf1_m, (fun h => nomatch h), fun _ => (IS_X3_orders1 hd).2.2.weak (fun as s K h => zp1_w as s K h)⟩
theorem ycount_nI : ∀ set, set < 256 → ∃ c, c < 9 ∧ ycount (nI set) = nI c := by
  have h : ∀ set : Nat, set < 256 → (List.range 9).any (fun c => decide (ycount (nI set) = nI c)) = true := by decide +kernel
  intro set hs
  have := h set hs
  simp only [List.any_eq_true, List.mem_range, decide_eq_true_eq] at this
  exact this
theorem ycount_rest : ∀ N, N < 9 → ∀ set, set < 2 ^ N → ∀ t, t < N → ybit (nI set) (nI t) = false → vp_in (nI N - 1 - ycount (nI set)) 9 := by
  have h : ∀ N, N < 9 → ∀ set, set < 2 ^ N → ∀ t, t < N → (ybit (nI set) (nI t) || (!decide (nI N - 1 - ycount (nI set) < 0) && decide ((nI N - 1 - ycount (nI set)).toNatClampNeg < 9))) = true := by decide +kernel
  intro N hN set hs t ht hb
  have := h N hN set hs t ht
  rw [hb] at this
  unfold vp_in
  simpa using this
def ypower (w : Nat → Int32) (t : Int32) : Int32 := yfold (fun set a => a + (if yswing w t (nI set) = true then yfac (ycount (nI set)).toNatClampNeg * yfac (w 96 - 1 - ycount (nI set)).toNatClampNeg else 0)) 0 (2 ^ (w 96).toNatClampNeg)
def T_X3_power : zT zM := zf1 (fun t s => vp_in (s.2 1 96) 9 ∧ vp_in t (s.2 1 96).toNatClampNeg) (fun t s => some (.int (ypower (s.2 1) t))) (fun _ s => s)
abbrev G_X3_power : zΓ zM := [(462, true, 2, T_X3_isSwing), (402, false, 1, T_X3_count), (459, false, 1, T_X3_orders1)]
theorem Z_X3_power_0 {σ : Type} {ret : Option FieldType} {hp : Instr → List Value → σ → (List Value → σ → Prop) → Prop} {K : Option Value → σ → Prop} {S : Nat → zL → List Value → σ → Prop} {L : zL} {s : σ} {st : List Value} : zone ret hp K cX3_power S 0 L st s = (S 1 L (.int 0 :: st) s) := zone_iconst dX3_power_0 (by decide)
theorem Z_X3_power_1 {σ : Type} {ret : Option FieldType} {hp : Instr → List Value → σ → (List Value → σ → Prop) → Prop} {K : Option Value → σ → Prop} {S : Nat → zL → List Value → σ → Prop} {L : zL} {s : σ} {st : List Value} : zone ret hp K cX3_power S 1 L st s = (zsti L 2 st fun q r => S 2 q r s) := zone_of dX3_power_1 rfl
theorem Z_X3_power_2 {σ : Type} {ret : Option FieldType} {hp : Instr → List Value → σ → (List Value → σ → Prop) → Prop} {K : Option Value → σ → Prop} {S : Nat → zL → List Value → σ → Prop} {L : zL} {s : σ} {st : List Value} : zone ret hp K cX3_power S 2 L st s = (S 3 L (.int 0 :: st) s) := zone_iconst dX3_power_2 (by decide)
theorem Z_X3_power_3 {σ : Type} {ret : Option FieldType} {hp : Instr → List Value → σ → (List Value → σ → Prop) → Prop} {K : Option Value → σ → Prop} {S : Nat → zL → List Value → σ → Prop} {L : zL} {s : σ} {st : List Value} : zone ret hp K cX3_power S 3 L st s = (zsti L 3 st fun q r => S 4 q r s) := zone_of dX3_power_3 rfl
theorem Z_X3_power_4 {σ : Type} {ret : Option FieldType} {hp : Instr → List Value → σ → (List Value → σ → Prop) → Prop} {K : Option Value → σ → Prop} {S : Nat → zL → List Value → σ → Prop} {L : zL} {s : σ} {st : List Value} : zone ret hp K cX3_power S 4 L st s = (zldi L 3 fun v => S 5 L (v :: st) s) := zone_of dX3_power_4 rfl
theorem Z_X3_power_5 {σ : Type} {ret : Option FieldType} {hp : Instr → List Value → σ → (List Value → σ → Prop) → Prop} {K : Option Value → σ → Prop} {S : Nat → zL → List Value → σ → Prop} {L : zL} {s : σ} {st : List Value} : zone ret hp K cX3_power S 5 L st s = (S 6 L (.int 1 :: st) s) := zone_iconst dX3_power_5 (by decide)
theorem Z_X3_power_6 {σ : Type} {ret : Option FieldType} {hp : Instr → List Value → σ → (List Value → σ → Prop) → Prop} {K : Option Value → σ → Prop} {S : Nat → zL → List Value → σ → Prop} {L : zL} {s : σ} {st : List Value} : zone ret hp K cX3_power S 6 L st s = (zlda L 0 fun v => S 7 L (v :: st) s) := zone_of dX3_power_6 rfl
theorem Z_X3_power_7 {σ : Type} {ret : Option FieldType} {hp : Instr → List Value → σ → (List Value → σ → Prop) → Prop} {K : Option Value → σ → Prop} {S : Nat → zL → List Value → σ → Prop} {L : zL} {s : σ} {st : List Value} : zone ret hp K cX3_power S 7 L st s = (hp (.getfield 7) st s (fun st' s' => S 10 L st' s')) := zone_of dX3_power_7 rfl
theorem Z_X3_power_10 {σ : Type} {ret : Option FieldType} {hp : Instr → List Value → σ → (List Value → σ → Prop) → Prop} {K : Option Value → σ → Prop} {S : Nat → zL → List Value → σ → Prop} {L : zL} {s : σ} {st : List Value} : zone ret hp K cX3_power S 10 L st s = (S 12 L (.int 96 :: st) s) := zone_bipush dX3_power_10 (by decide)
theorem Z_X3_power_12 {σ : Type} {ret : Option FieldType} {hp : Instr → List Value → σ → (List Value → σ → Prop) → Prop} {K : Option Value → σ → Prop} {S : Nat → zL → List Value → σ → Prop} {L : zL} {s : σ} {st : List Value} : zone ret hp K cX3_power S 12 L st s = (hp (.iaload) st s (fun st' s' => S 13 L st' s')) := zone_of dX3_power_12 rfl
theorem Z_X3_power_13 {σ : Type} {ret : Option FieldType} {hp : Instr → List Value → σ → (List Value → σ → Prop) → Prop} {K : Option Value → σ → Prop} {S : Nat → zL → List Value → σ → Prop} {L : zL} {s : σ} {st : List Value} : zone ret hp K cX3_power S 13 L st s = (zb2 st fun x y r => S 14 L (.int (x <<< (y &&& 31)) :: r) s) := zone_of dX3_power_13 rfl
theorem Z_X3_power_14 {σ : Type} {ret : Option FieldType} {hp : Instr → List Value → σ → (List Value → σ → Prop) → Prop} {K : Option Value → σ → Prop} {S : Nat → zL → List Value → σ → Prop} {L : zL} {s : σ} {st : List Value} : zone ret hp K cX3_power S 14 L st s = (zb2 st fun x y r => if x < y then S 17 L r s else S 64 L r s) := zone_ic_ge dX3_power_14 (by decide)
theorem Z_X3_power_17 {σ : Type} {ret : Option FieldType} {hp : Instr → List Value → σ → (List Value → σ → Prop) → Prop} {K : Option Value → σ → Prop} {S : Nat → zL → List Value → σ → Prop} {L : zL} {s : σ} {st : List Value} : zone ret hp K cX3_power S 17 L st s = (zldi L 2 fun v => S 18 L (v :: st) s) := zone_of dX3_power_17 rfl
theorem Z_X3_power_18 {σ : Type} {ret : Option FieldType} {hp : Instr → List Value → σ → (List Value → σ → Prop) → Prop} {K : Option Value → σ → Prop} {S : Nat → zL → List Value → σ → Prop} {L : zL} {s : σ} {st : List Value} : zone ret hp K cX3_power S 18 L st s = (zlda L 0 fun v => S 19 L (v :: st) s) := zone_of dX3_power_18 rfl
theorem Z_X3_power_19 {σ : Type} {ret : Option FieldType} {hp : Instr → List Value → σ → (List Value → σ → Prop) → Prop} {K : Option Value → σ → Prop} {S : Nat → zL → List Value → σ → Prop} {L : zL} {s : σ} {st : List Value} : zone ret hp K cX3_power S 19 L st s = (zldi L 1 fun v => S 20 L (v :: st) s) := zone_of dX3_power_19 rfl
theorem Z_X3_power_20 {σ : Type} {ret : Option FieldType} {hp : Instr → List Value → σ → (List Value → σ → Prop) → Prop} {K : Option Value → σ → Prop} {S : Nat → zL → List Value → σ → Prop} {L : zL} {s : σ} {st : List Value} : zone ret hp K cX3_power S 20 L st s = (zldi L 3 fun v => S 21 L (v :: st) s) := zone_of dX3_power_20 rfl
theorem Z_X3_power_21 {σ : Type} {ret : Option FieldType} {hp : Instr → List Value → σ → (List Value → σ → Prop) → Prop} {K : Option Value → σ → Prop} {S : Nat → zL → List Value → σ → Prop} {L : zL} {s : σ} {st : List Value} : zone ret hp K cX3_power S 21 L st s = (hp (.invokevirtual 462) st s (fun st' s' => S 24 L st' s')) := zone_of dX3_power_21 rfl
theorem Z_X3_power_24 {σ : Type} {ret : Option FieldType} {hp : Instr → List Value → σ → (List Value → σ → Prop) → Prop} {K : Option Value → σ → Prop} {S : Nat → zL → List Value → σ → Prop} {L : zL} {s : σ} {st : List Value} : zone ret hp K cX3_power S 24 L st s = (zb1 st fun x r => if x = 0 then S 55 L r s else S 27 L r s) := zone_if_eq dX3_power_24 (by decide)
theorem Z_X3_power_27 {σ : Type} {ret : Option FieldType} {hp : Instr → List Value → σ → (List Value → σ → Prop) → Prop} {K : Option Value → σ → Prop} {S : Nat → zL → List Value → σ → Prop} {L : zL} {s : σ} {st : List Value} : zone ret hp K cX3_power S 27 L st s = (zldi L 3 fun v => S 28 L (v :: st) s) := zone_of dX3_power_27 rfl
theorem Z_X3_power_28 {σ : Type} {ret : Option FieldType} {hp : Instr → List Value → σ → (List Value → σ → Prop) → Prop} {K : Option Value → σ → Prop} {S : Nat → zL → List Value → σ → Prop} {L : zL} {s : σ} {st : List Value} : zone ret hp K cX3_power S 28 L st s = (hp (.invokestatic 402) st s (fun st' s' => S 31 L st' s')) := zone_of dX3_power_28 rfl
theorem Z_X3_power_31 {σ : Type} {ret : Option FieldType} {hp : Instr → List Value → σ → (List Value → σ → Prop) → Prop} {K : Option Value → σ → Prop} {S : Nat → zL → List Value → σ → Prop} {L : zL} {s : σ} {st : List Value} : zone ret hp K cX3_power S 31 L st s = (hp (.invokestatic 459) st s (fun st' s' => S 34 L st' s')) := zone_of dX3_power_31 rfl
theorem Z_X3_power_34 {σ : Type} {ret : Option FieldType} {hp : Instr → List Value → σ → (List Value → σ → Prop) → Prop} {K : Option Value → σ → Prop} {S : Nat → zL → List Value → σ → Prop} {L : zL} {s : σ} {st : List Value} : zone ret hp K cX3_power S 34 L st s = (zlda L 0 fun v => S 35 L (v :: st) s) := zone_of dX3_power_34 rfl
theorem Z_X3_power_35 {σ : Type} {ret : Option FieldType} {hp : Instr → List Value → σ → (List Value → σ → Prop) → Prop} {K : Option Value → σ → Prop} {S : Nat → zL → List Value → σ → Prop} {L : zL} {s : σ} {st : List Value} : zone ret hp K cX3_power S 35 L st s = (hp (.getfield 7) st s (fun st' s' => S 38 L st' s')) := zone_of dX3_power_35 rfl
theorem Z_X3_power_38 {σ : Type} {ret : Option FieldType} {hp : Instr → List Value → σ → (List Value → σ → Prop) → Prop} {K : Option Value → σ → Prop} {S : Nat → zL → List Value → σ → Prop} {L : zL} {s : σ} {st : List Value} : zone ret hp K cX3_power S 38 L st s = (S 40 L (.int 96 :: st) s) := zone_bipush dX3_power_38 (by decide)
theorem Z_X3_power_40 {σ : Type} {ret : Option FieldType} {hp : Instr → List Value → σ → (List Value → σ → Prop) → Prop} {K : Option Value → σ → Prop} {S : Nat → zL → List Value → σ → Prop} {L : zL} {s : σ} {st : List Value} : zone ret hp K cX3_power S 40 L st s = (hp (.iaload) st s (fun st' s' => S 41 L st' s')) := zone_of dX3_power_40 rfl
theorem Z_X3_power_41 {σ : Type} {ret : Option FieldType} {hp : Instr → List Value → σ → (List Value → σ → Prop) → Prop} {K : Option Value → σ → Prop} {S : Nat → zL → List Value → σ → Prop} {L : zL} {s : σ} {st : List Value} : zone ret hp K cX3_power S 41 L st s = (S 42 L (.int 1 :: st) s) := zone_iconst dX3_power_41 (by decide)
theorem Z_X3_power_42 {σ : Type} {ret : Option FieldType} {hp : Instr → List Value → σ → (List Value → σ → Prop) → Prop} {K : Option Value → σ → Prop} {S : Nat → zL → List Value → σ → Prop} {L : zL} {s : σ} {st : List Value} : zone ret hp K cX3_power S 42 L st s = (zb2 st fun x y r => S 43 L (.int (x - y) :: r) s) := zone_of dX3_power_42 rfl
theorem Z_X3_power_43 {σ : Type} {ret : Option FieldType} {hp : Instr → List Value → σ → (List Value → σ → Prop) → Prop} {K : Option Value → σ → Prop} {S : Nat → zL → List Value → σ → Prop} {L : zL} {s : σ} {st : List Value} : zone ret hp K cX3_power S 43 L st s = (zldi L 3 fun v => S 44 L (v :: st) s) := zone_of dX3_power_43 rfl
theorem Z_X3_power_44 {σ : Type} {ret : Option FieldType} {hp : Instr → List Value → σ → (List Value → σ → Prop) → Prop} {K : Option Value → σ → Prop} {S : Nat → zL → List Value → σ → Prop} {L : zL} {s : σ} {st : List Value} : zone ret hp K cX3_power S 44 L st s = (hp (.invokestatic 402) st s (fun st' s' => S 47 L st' s')) := zone_of dX3_power_44 rfl
theorem Z_X3_power_47 {σ : Type} {ret : Option FieldType} {hp : Instr → List Value → σ → (List Value → σ → Prop) → Prop} {K : Option Value → σ → Prop} {S : Nat → zL → List Value → σ → Prop} {L : zL} {s : σ} {st : List Value} : zone ret hp K cX3_power S 47 L st s = (zb2 st fun x y r => S 48 L (.int (x - y) :: r) s) := zone_of dX3_power_47 rfl
theorem Z_X3_power_48 {σ : Type} {ret : Option FieldType} {hp : Instr → List Value → σ → (List Value → σ → Prop) → Prop} {K : Option Value → σ → Prop} {S : Nat → zL → List Value → σ → Prop} {L : zL} {s : σ} {st : List Value} : zone ret hp K cX3_power S 48 L st s = (hp (.invokestatic 459) st s (fun st' s' => S 51 L st' s')) := zone_of dX3_power_48 rfl
theorem Z_X3_power_51 {σ : Type} {ret : Option FieldType} {hp : Instr → List Value → σ → (List Value → σ → Prop) → Prop} {K : Option Value → σ → Prop} {S : Nat → zL → List Value → σ → Prop} {L : zL} {s : σ} {st : List Value} : zone ret hp K cX3_power S 51 L st s = (zb2 st fun x y r => S 52 L (.int (x * y) :: r) s) := zone_of dX3_power_51 rfl
theorem Z_X3_power_52 {σ : Type} {ret : Option FieldType} {hp : Instr → List Value → σ → (List Value → σ → Prop) → Prop} {K : Option Value → σ → Prop} {S : Nat → zL → List Value → σ → Prop} {L : zL} {s : σ} {st : List Value} : zone ret hp K cX3_power S 52 L st s = (S 56 L st s) := zone_goto dX3_power_52 (by decide)
theorem Z_X3_power_55 {σ : Type} {ret : Option FieldType} {hp : Instr → List Value → σ → (List Value → σ → Prop) → Prop} {K : Option Value → σ → Prop} {S : Nat → zL → List Value → σ → Prop} {L : zL} {s : σ} {st : List Value} : zone ret hp K cX3_power S 55 L st s = (S 56 L (.int 0 :: st) s) := zone_iconst dX3_power_55 (by decide)
theorem Z_X3_power_56 {σ : Type} {ret : Option FieldType} {hp : Instr → List Value → σ → (List Value → σ → Prop) → Prop} {K : Option Value → σ → Prop} {S : Nat → zL → List Value → σ → Prop} {L : zL} {s : σ} {st : List Value} : zone ret hp K cX3_power S 56 L st s = (zb2 st fun x y r => S 57 L (.int (x + y) :: r) s) := zone_of dX3_power_56 rfl
theorem Z_X3_power_57 {σ : Type} {ret : Option FieldType} {hp : Instr → List Value → σ → (List Value → σ → Prop) → Prop} {K : Option Value → σ → Prop} {S : Nat → zL → List Value → σ → Prop} {L : zL} {s : σ} {st : List Value} : zone ret hp K cX3_power S 57 L st s = (zsti L 2 st fun q r => S 58 q r s) := zone_of dX3_power_57 rfl
theorem Z_X3_power_58 {σ : Type} {ret : Option FieldType} {hp : Instr → List Value → σ → (List Value → σ → Prop) → Prop} {K : Option Value → σ → Prop} {S : Nat → zL → List Value → σ → Prop} {L : zL} {s : σ} {st : List Value} : zone ret hp K cX3_power S 58 L st s = (zic L 3 1 fun q => S 61 q st s) := zone_iinc dX3_power_58 (by decide)
theorem Z_X3_power_61 {σ : Type} {ret : Option FieldType} {hp : Instr → List Value → σ → (List Value → σ → Prop) → Prop} {K : Option Value → σ → Prop} {S : Nat → zL → List Value → σ → Prop} {L : zL} {s : σ} {st : List Value} : zone ret hp K cX3_power S 61 L st s = (S 4 L st s) := zone_goto dX3_power_61 (by decide)
theorem Z_X3_power_64 {σ : Type} {ret : Option FieldType} {hp : Instr → List Value → σ → (List Value → σ → Prop) → Prop} {K : Option Value → σ → Prop} {S : Nat → zL → List Value → σ → Prop} {L : zL} {s : σ} {st : List Value} : zone ret hp K cX3_power S 64 L st s = (zldi L 2 fun v => S 65 L (v :: st) s) := zone_of dX3_power_64 rfl
theorem Z_X3_power_65 {σ : Type} {ret : Option FieldType} {hp : Instr → List Value → σ → (List Value → σ → Prop) → Prop} {K : Option Value → σ → Prop} {S : Nat → zL → List Value → σ → Prop} {L : zL} {s : σ} {v : Int32} : zone ret hp K cX3_power S 65 L [.int v] s = (zretI ret v ∧ K (some (.int v)) s) := zone_of dX3_power_65 rfl
theorem CC_X3_power_462 {b : Nat} {a0 a1 : Value} {r : List Value} {s : zM} {k : List Value → zM → Prop} : zcallV b G_X3_power 462 (a1 :: a0 :: .ref b :: r) s k = (zfew r 8 = true ∧ T_X3_isSwing [a0, a1] s (fun v s' => zpush v r (fun q => k q s'))) := zcV_n rfl rfl
theorem CC_X3_power_402 {a0 : Value} {r : List Value} {s : zM} {k : List Value → zM → Prop} : zcallS G_X3_power 402 (a0 :: r) s k = (zfew r 8 = true ∧ T_X3_count [a0] s (fun v s' => zpush v r (fun q => k q s'))) := zcS_n rfl rfl
theorem CC_X3_power_459 {a0 : Value} {r : List Value} {s : zM} {k : List Value → zM → Prop} : zcallS G_X3_power 459 (a0 :: r) s k = (zfew r 8 = true ∧ T_X3_orders1 [a0] s (fun v s' => zpush v r (fun q => k q s'))) := zcS_n rfl rfl
theorem TE_X3_power {t : Int32} {s : zM} {K : Option Value → zM → Prop} : T_X3_power [.int t] s K = ((fun t s => vp_in (s.2 1 96) 9 ∧ vp_in t (s.2 1 96).toNatClampNeg) t s ∧ K ((fun t s => some (.int (ypower (s.2 1) t))) t s) ((fun _ s => s) t s)) := rfl
set_option maxRecDepth 100000 in
set_option maxHeartbeats 4000000 in
theorem B_X3_power {E : zEnv} (b : Nat) (t : Int32) (s : zM) (K : Option Value → zM → Prop) (hT : T_X3_power [.int t] s K) (S : Nat → zL → List Value → zM → Prop) (hm : zMono (zMhp E b G_X3_power)) (hc : zClosed (some .int) (zMhp E b G_X3_power) K cX3_power S) : S 0 (zent [.ref b, .int t] 4) [] s := by
  obtain ⟨⟨hN, ht⟩, hK⟩ := hT
  dsimp only at hN ht hK
  obtain ⟨N, hN9, eN⟩ := vp_in_of hN (by decide)
  unfold ypower at hK
  rw [eN, nI_clamp (by omega)] at hK ht
  obtain ⟨T, hTN, rfl⟩ := vp_in_of ht (by omega)
  have hp := ypow_le hN9
  have hpw := ypow hN9
  have hst : ∀ k, k < 2 ^ N → yswing (s.2 1) (nI T) (nI k) = true → vp_in (nI N - 1 - ycount (nI k)) 9 := by
    intro k hk h
    refine ycount_rest N hN9 k hk T hTN ?_
    unfold yswing at h
    cases hb : ybit (nI k) (nI T)
    · rfl
    · rw [hb] at h
      simp at h
  generalize hG : (fun (set : Nat) (a : Int32) => a + (if yswing (s.2 1) (nI T) (nI set) = true then yfac (ycount (nI set)).toNatClampNeg * yfac (nI N - 1 - ycount (nI set)).toNatClampNeg else 0)) = G at hK
  generalize 2 ^ N = P at hK hp hpw hst
  have loop : ∀ n k : Nat, k + n = P → S 4 [some (.ref b), some (.int (nI T)), some (.int (yfold G 0 k)), some (.int (nI k))] [] s := by
    intro n
    induction n with
    | zero =>
      intro k hk
      obtain rfl : k = P := by omega
      refine zgo hm hc (fun q => q == 4) 60 ?_
      simp (config := {decide := true, maxSteps := 1000000}) (disch := first | rfl | decide | omega) only [↓Z_X3_power_0, ↓Z_X3_power_1, ↓Z_X3_power_2, ↓Z_X3_power_3, ↓Z_X3_power_4, ↓Z_X3_power_5, ↓Z_X3_power_6, ↓Z_X3_power_7, ↓Z_X3_power_10, ↓Z_X3_power_12, ↓Z_X3_power_13, ↓Z_X3_power_14, ↓Z_X3_power_17, ↓Z_X3_power_18, ↓Z_X3_power_19, ↓Z_X3_power_20, ↓Z_X3_power_21, ↓Z_X3_power_24, ↓Z_X3_power_27, ↓Z_X3_power_28, ↓Z_X3_power_31, ↓Z_X3_power_34, ↓Z_X3_power_35, ↓Z_X3_power_38, ↓Z_X3_power_40, ↓Z_X3_power_41, ↓Z_X3_power_42, ↓Z_X3_power_43, ↓Z_X3_power_44, ↓Z_X3_power_47, ↓Z_X3_power_48, ↓Z_X3_power_51, ↓Z_X3_power_52, ↓Z_X3_power_55, ↓Z_X3_power_56, ↓Z_X3_power_57, ↓Z_X3_power_58, ↓Z_X3_power_61, ↓Z_X3_power_64, ↓Z_X3_power_65, ↓reduceIte, ↓zrun_stop, ↓zrun_step, ↓zb2_i, ↓zb1_i, ↓zldi_0, ↓zldi_s, ↓zlda_0, ↓zlda_n, ↓zlda_s, ↓zsc_0, ↓zsc_s, ↓zsti_c, ↓zsta_r, ↓zsta_n, ↓zic_0, ↓zic_s, ↓zpush_s, ↓zpush_n, ↓zfew_0, ↓zfew_i, ↓zfew_r, ↓zfew_n, ↓zMg'_7, ↓zMhp_iS, ↓zMhp_iV, ↓zMl_1, ↓zMl_10, ↓zMl_11, ↓zMl_12, ↓zMl_13, ↓zMl_14, ↓zMl_15, ↓zMl_16, ↓zMl_17, ↓zMl_18, ↓zMl_2, ↓zMl_3, ↓zMl_4, ↓zMl_5, ↓zMl_6, ↓zMl_7, ↓zMl_8, ↓zMl_9, ↓CC_X3_power_462, ↓CC_X3_power_402, ↓CC_X3_power_459, ↓TE_X3_isSwing, ↓TE_X3_count, ↓TE_X3_orders1, zcat_int, zcat_ref, zcat_null, zret_int, zret_b0, zret_b1, zret_b, Nat.reduceAdd, Nat.reduceSub, Nat.reduceLT, Nat.reduceEqDiff, Nat.reduceBEq, Nat.reduceBNe, true_and, and_true, if_true, if_false, Bool.false_eq_true, Bool.true_eq_false, Bool.or_self, Bool.or_false, Bool.or_true, Bool.false_or, Bool.true_or, zbi_e0, zbi_e1, eq_self, reduceCtorEq, Fin.isValue, zent, List.map_cons, List.map_nil, List.length_cons, List.length_nil, List.replicate, List.cons_append, List.nil_append, List.append_nil, Nat.zero_add, Nat.add_zero, zF_1, zF_2, zA_1, zA_2s, zA_2n, zB_1, zB_2s, zB_2n, not_true_eq_false, not_false_eq_true, Int32.reduceLT, Int32.reduceAdd, Int32.reduceSub, Int32.reduceMul, ne_eq, Int32.reduceToNatClampNeg, zlit_vp, nI_al, nI_la, nI_lm, nI_ml, nI_ltl, nI_llt, nI_eql, nI_lt2, nI_eq2, nI_vp, nI_cl, nI_add, pk_mul, nI_divl, nI_sub2, nI_lsub, nI_ne0l, nI_1, nI_pred, pk_m1, upd_s, upd_n, Nat.lt_irrefl, decide_eq_false_iff_not, decide_eq_true_eq, ite_not, ite_self, Nat.reducePow, Nat.reduceMul, eN, hpw]
      exact hK
    | succ n ih =>
      intro k hk
      have hk' : k < P := by omega
      have ih := ih (k + 1) (by omega)
      rw [yfold_s] at ih
      generalize yfold G 0 k = acc at ih ⊢
      rw [← hG] at ih
      dsimp only at ih
      cases c : yswing (s.2 1) (nI T) (nI k)
      · rw [c, if_neg (by decide)] at ih
        refine zgo hm hc (fun q => q == 4) 60 ?_
        simp (config := {decide := true, maxSteps := 1000000}) (disch := first | rfl | decide | omega) only [↓Z_X3_power_0, ↓Z_X3_power_1, ↓Z_X3_power_2, ↓Z_X3_power_3, ↓Z_X3_power_4, ↓Z_X3_power_5, ↓Z_X3_power_6, ↓Z_X3_power_7, ↓Z_X3_power_10, ↓Z_X3_power_12, ↓Z_X3_power_13, ↓Z_X3_power_14, ↓Z_X3_power_17, ↓Z_X3_power_18, ↓Z_X3_power_19, ↓Z_X3_power_20, ↓Z_X3_power_21, ↓Z_X3_power_24, ↓Z_X3_power_27, ↓Z_X3_power_28, ↓Z_X3_power_31, ↓Z_X3_power_34, ↓Z_X3_power_35, ↓Z_X3_power_38, ↓Z_X3_power_40, ↓Z_X3_power_41, ↓Z_X3_power_42, ↓Z_X3_power_43, ↓Z_X3_power_44, ↓Z_X3_power_47, ↓Z_X3_power_48, ↓Z_X3_power_51, ↓Z_X3_power_52, ↓Z_X3_power_55, ↓Z_X3_power_56, ↓Z_X3_power_57, ↓Z_X3_power_58, ↓Z_X3_power_61, ↓Z_X3_power_64, ↓Z_X3_power_65, ↓reduceIte, ↓zrun_stop, ↓zrun_step, ↓zb2_i, ↓zb1_i, ↓zldi_0, ↓zldi_s, ↓zlda_0, ↓zlda_n, ↓zlda_s, ↓zsc_0, ↓zsc_s, ↓zsti_c, ↓zsta_r, ↓zsta_n, ↓zic_0, ↓zic_s, ↓zpush_s, ↓zpush_n, ↓zfew_0, ↓zfew_i, ↓zfew_r, ↓zfew_n, ↓zMg'_7, ↓zMhp_iS, ↓zMhp_iV, ↓zMl_1, ↓zMl_10, ↓zMl_11, ↓zMl_12, ↓zMl_13, ↓zMl_14, ↓zMl_15, ↓zMl_16, ↓zMl_17, ↓zMl_18, ↓zMl_2, ↓zMl_3, ↓zMl_4, ↓zMl_5, ↓zMl_6, ↓zMl_7, ↓zMl_8, ↓zMl_9, ↓CC_X3_power_462, ↓CC_X3_power_402, ↓CC_X3_power_459, ↓TE_X3_isSwing, ↓TE_X3_count, ↓TE_X3_orders1, zcat_int, zcat_ref, zcat_null, zret_int, zret_b0, zret_b1, zret_b, Nat.reduceAdd, Nat.reduceSub, Nat.reduceLT, Nat.reduceEqDiff, Nat.reduceBEq, Nat.reduceBNe, true_and, and_true, if_true, if_false, Bool.false_eq_true, Bool.true_eq_false, Bool.or_self, Bool.or_false, Bool.or_true, Bool.false_or, Bool.true_or, zbi_e0, zbi_e1, eq_self, reduceCtorEq, Fin.isValue, zent, List.map_cons, List.map_nil, List.length_cons, List.length_nil, List.replicate, List.cons_append, List.nil_append, List.append_nil, Nat.zero_add, Nat.add_zero, zF_1, zF_2, zA_1, zA_2s, zA_2n, zB_1, zB_2s, zB_2n, not_true_eq_false, not_false_eq_true, Int32.reduceLT, Int32.reduceAdd, Int32.reduceSub, Int32.reduceMul, ne_eq, Int32.reduceToNatClampNeg, zlit_vp, nI_al, nI_la, nI_lm, nI_ml, nI_ltl, nI_llt, nI_eql, nI_lt2, nI_eq2, nI_vp, nI_cl, nI_add, pk_mul, nI_divl, nI_sub2, nI_lsub, nI_ne0l, nI_1, nI_pred, pk_m1, upd_s, upd_n, Nat.lt_irrefl, decide_eq_false_iff_not, decide_eq_true_eq, ite_not, ite_self, Nat.reducePow, Nat.reduceMul, eN, hpw, hk', c, hN]
        first | exact ih | (rw [show acc + 0 = acc by simp] at ih; exact ih)
      · rw [c, if_pos rfl] at ih
        have h1 := hst k hk' c
        obtain ⟨c0, hc0, ec⟩ := ycount_nI k (by omega)
        have h2 : vp_in (ycount (nI k)) 9 := by rw [ec]; exact vp_in_nI hc0 (by decide)
        refine zgo hm hc (fun q => q == 4) 60 ?_
        simp (config := {decide := true, maxSteps := 1000000}) (disch := first | rfl | decide | omega) only [↓Z_X3_power_0, ↓Z_X3_power_1, ↓Z_X3_power_2, ↓Z_X3_power_3, ↓Z_X3_power_4, ↓Z_X3_power_5, ↓Z_X3_power_6, ↓Z_X3_power_7, ↓Z_X3_power_10, ↓Z_X3_power_12, ↓Z_X3_power_13, ↓Z_X3_power_14, ↓Z_X3_power_17, ↓Z_X3_power_18, ↓Z_X3_power_19, ↓Z_X3_power_20, ↓Z_X3_power_21, ↓Z_X3_power_24, ↓Z_X3_power_27, ↓Z_X3_power_28, ↓Z_X3_power_31, ↓Z_X3_power_34, ↓Z_X3_power_35, ↓Z_X3_power_38, ↓Z_X3_power_40, ↓Z_X3_power_41, ↓Z_X3_power_42, ↓Z_X3_power_43, ↓Z_X3_power_44, ↓Z_X3_power_47, ↓Z_X3_power_48, ↓Z_X3_power_51, ↓Z_X3_power_52, ↓Z_X3_power_55, ↓Z_X3_power_56, ↓Z_X3_power_57, ↓Z_X3_power_58, ↓Z_X3_power_61, ↓Z_X3_power_64, ↓Z_X3_power_65, ↓reduceIte, ↓zrun_stop, ↓zrun_step, ↓zb2_i, ↓zb1_i, ↓zldi_0, ↓zldi_s, ↓zlda_0, ↓zlda_n, ↓zlda_s, ↓zsc_0, ↓zsc_s, ↓zsti_c, ↓zsta_r, ↓zsta_n, ↓zic_0, ↓zic_s, ↓zpush_s, ↓zpush_n, ↓zfew_0, ↓zfew_i, ↓zfew_r, ↓zfew_n, ↓zMg'_7, ↓zMhp_iS, ↓zMhp_iV, ↓zMl_1, ↓zMl_10, ↓zMl_11, ↓zMl_12, ↓zMl_13, ↓zMl_14, ↓zMl_15, ↓zMl_16, ↓zMl_17, ↓zMl_18, ↓zMl_2, ↓zMl_3, ↓zMl_4, ↓zMl_5, ↓zMl_6, ↓zMl_7, ↓zMl_8, ↓zMl_9, ↓CC_X3_power_462, ↓CC_X3_power_402, ↓CC_X3_power_459, ↓TE_X3_isSwing, ↓TE_X3_count, ↓TE_X3_orders1, zcat_int, zcat_ref, zcat_null, zret_int, zret_b0, zret_b1, zret_b, Nat.reduceAdd, Nat.reduceSub, Nat.reduceLT, Nat.reduceEqDiff, Nat.reduceBEq, Nat.reduceBNe, true_and, and_true, if_true, if_false, Bool.false_eq_true, Bool.true_eq_false, Bool.or_self, Bool.or_false, Bool.or_true, Bool.false_or, Bool.true_or, zbi_e0, zbi_e1, eq_self, reduceCtorEq, Fin.isValue, zent, List.map_cons, List.map_nil, List.length_cons, List.length_nil, List.replicate, List.cons_append, List.nil_append, List.append_nil, Nat.zero_add, Nat.add_zero, zF_1, zF_2, zA_1, zA_2s, zA_2n, zB_1, zB_2s, zB_2n, not_true_eq_false, not_false_eq_true, Int32.reduceLT, Int32.reduceAdd, Int32.reduceSub, Int32.reduceMul, ne_eq, Int32.reduceToNatClampNeg, zlit_vp, nI_al, nI_la, nI_lm, nI_ml, nI_ltl, nI_llt, nI_eql, nI_lt2, nI_eq2, nI_vp, nI_cl, nI_add, pk_mul, nI_divl, nI_sub2, nI_lsub, nI_ne0l, nI_1, nI_pred, pk_m1, upd_s, upd_n, Nat.lt_irrefl, decide_eq_false_iff_not, decide_eq_true_eq, ite_not, ite_self, Nat.reducePow, Nat.reduceMul, eN, hpw, hk', c, hN, h1, h2]
        exact ih
  refine zgo hm hc (fun q => q == 4) 60 ?_
  simp (config := {decide := true, maxSteps := 1000000}) (disch := first | rfl | decide | omega) only [↓Z_X3_power_0, ↓Z_X3_power_1, ↓Z_X3_power_2, ↓Z_X3_power_3, ↓Z_X3_power_4, ↓Z_X3_power_5, ↓Z_X3_power_6, ↓Z_X3_power_7, ↓Z_X3_power_10, ↓Z_X3_power_12, ↓Z_X3_power_13, ↓Z_X3_power_14, ↓Z_X3_power_17, ↓Z_X3_power_18, ↓Z_X3_power_19, ↓Z_X3_power_20, ↓Z_X3_power_21, ↓Z_X3_power_24, ↓Z_X3_power_27, ↓Z_X3_power_28, ↓Z_X3_power_31, ↓Z_X3_power_34, ↓Z_X3_power_35, ↓Z_X3_power_38, ↓Z_X3_power_40, ↓Z_X3_power_41, ↓Z_X3_power_42, ↓Z_X3_power_43, ↓Z_X3_power_44, ↓Z_X3_power_47, ↓Z_X3_power_48, ↓Z_X3_power_51, ↓Z_X3_power_52, ↓Z_X3_power_55, ↓Z_X3_power_56, ↓Z_X3_power_57, ↓Z_X3_power_58, ↓Z_X3_power_61, ↓Z_X3_power_64, ↓Z_X3_power_65, ↓reduceIte, ↓zrun_stop, ↓zrun_step, ↓zb2_i, ↓zb1_i, ↓zldi_0, ↓zldi_s, ↓zlda_0, ↓zlda_n, ↓zlda_s, ↓zsc_0, ↓zsc_s, ↓zsti_c, ↓zsta_r, ↓zsta_n, ↓zic_0, ↓zic_s, ↓zpush_s, ↓zpush_n, ↓zfew_0, ↓zfew_i, ↓zfew_r, ↓zfew_n, ↓zMg'_7, ↓zMhp_iS, ↓zMhp_iV, ↓zMl_1, ↓zMl_10, ↓zMl_11, ↓zMl_12, ↓zMl_13, ↓zMl_14, ↓zMl_15, ↓zMl_16, ↓zMl_17, ↓zMl_18, ↓zMl_2, ↓zMl_3, ↓zMl_4, ↓zMl_5, ↓zMl_6, ↓zMl_7, ↓zMl_8, ↓zMl_9, ↓CC_X3_power_462, ↓CC_X3_power_402, ↓CC_X3_power_459, ↓TE_X3_isSwing, ↓TE_X3_count, ↓TE_X3_orders1, zcat_int, zcat_ref, zcat_null, zret_int, zret_b0, zret_b1, zret_b, Nat.reduceAdd, Nat.reduceSub, Nat.reduceLT, Nat.reduceEqDiff, Nat.reduceBEq, Nat.reduceBNe, true_and, and_true, if_true, if_false, Bool.false_eq_true, Bool.true_eq_false, Bool.or_self, Bool.or_false, Bool.or_true, Bool.false_or, Bool.true_or, zbi_e0, zbi_e1, eq_self, reduceCtorEq, Fin.isValue, zent, List.map_cons, List.map_nil, List.length_cons, List.length_nil, List.replicate, List.cons_append, List.nil_append, List.append_nil, Nat.zero_add, Nat.add_zero, zF_1, zF_2, zA_1, zA_2s, zA_2n, zB_1, zB_2s, zB_2n, not_true_eq_false, not_false_eq_true, Int32.reduceLT, Int32.reduceAdd, Int32.reduceSub, Int32.reduceMul, ne_eq, Int32.reduceToNatClampNeg, zlit_vp, nI_al, nI_la, nI_lm, nI_ml, nI_ltl, nI_llt, nI_eql, nI_lt2, nI_eq2, nI_vp, nI_cl, nI_add, pk_mul, nI_divl, nI_sub2, nI_lsub, nI_ne0l, nI_1, nI_pred, pk_m1, upd_s, upd_n, Nat.lt_irrefl, decide_eq_false_iff_not, decide_eq_true_eq, ite_not, ite_self, Nat.reducePow, Nat.reduceMul]
  exact loop P 0 (by omega)
theorem MS_X3_power {l : Launch} {E : zEnv} {b0 : Nat} : zMS l E b0 10 yX3_power (ws_ yX3_power cX3_power 4 (some .int)) 0 0 (zlV E T_X3_power) := by
  refine zM_MS (Γ := G_X3_power) rfl (zΓok_cons (IM_X3_isSwing (by decide)) (zΓok_cons (IM_X3_count (by decide)) (zΓok_cons (IM_X3_orders1 (by decide)) zΓok_nil))) (fun as s K h => ?_) ?_
  · have h1 := zf1_a as s K h
    exact ⟨by rw [h1.1]; decide, h1.2⟩
  · intro b as s K hT S hm hc
    have h0 := hT
    unfold T_X3_power zf1 at h0
    split at h0
    · exact B_X3_power b _ s K hT S hm hc
    · exact h0.elim
theorem IM_X3_power {l : Launch} {E : zEnv} {b0 d0 : Nat} (hd : 10 + 1 ≤ d0) : zΓokq l E b0 d0 (499, true, 1, T_X3_power) := ⟨zf1_m, (fun _ => zInv.V MS_X3_power hd (by decide) (lw_V q1965 q1967 qs145 q158 q1968) (by decide +kernel) rfl rfl), fun h => nomatch h⟩
