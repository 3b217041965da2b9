/-! orders: one after another -/
/-- the first of n that can come and from which all can be done -/
def ynext (ah O : Nat → Int32) (set : Nat) : Nat := yfst (fun i => ycan ah i set && !decide (O (set ||| 2 ^ i) = 0)) 8
def T_X3_nextOf : zT zM := zf1 (fun set s => ∃ k : Nat, set = nI k ∧ k < 256 ∧ ynext (s.2 17) (s.2 18) k < 8) (fun set s => some (.int (nI (ynext (s.2 17) (s.2 18) set.toNatClampNeg)))) (fun _ s => s)
abbrev G_X3_nextOf : zΓ zM := [(484, true, 2, T_X3_canCome)]
theorem Z_X3_nextOf_0 {σ : Type} {ret : Option FieldType} {hp : Instr → List Value → σ → (List Value → σ → Prop) → Prop} {K : Option Value → σ → Prop} {S : Nat → zL → List Value → σ → Prop} {L : zL} {s : σ} {st : List Value} : zone ret hp K cX3_nextOf S 0 L st s = (S 1 L (.int 0 :: st) s) := zone_iconst dX3_nextOf_0 (by decide)
theorem Z_X3_nextOf_1 {σ : Type} {ret : Option FieldType} {hp : Instr → List Value → σ → (List Value → σ → Prop) → Prop} {K : Option Value → σ → Prop} {S : Nat → zL → List Value → σ → Prop} {L : zL} {s : σ} {st : List Value} : zone ret hp K cX3_nextOf S 1 L st s = (zsti L 2 st fun q r => S 2 q r s) := zone_of dX3_nextOf_1 rfl
theorem Z_X3_nextOf_2 {σ : Type} {ret : Option FieldType} {hp : Instr → List Value → σ → (List Value → σ → Prop) → Prop} {K : Option Value → σ → Prop} {S : Nat → zL → List Value → σ → Prop} {L : zL} {s : σ} {st : List Value} : zone ret hp K cX3_nextOf S 2 L st s = (zlda L 0 fun v => S 3 L (v :: st) s) := zone_of dX3_nextOf_2 rfl
theorem Z_X3_nextOf_3 {σ : Type} {ret : Option FieldType} {hp : Instr → List Value → σ → (List Value → σ → Prop) → Prop} {K : Option Value → σ → Prop} {S : Nat → zL → List Value → σ → Prop} {L : zL} {s : σ} {st : List Value} : zone ret hp K cX3_nextOf S 3 L st s = (zldi L 2 fun v => S 4 L (v :: st) s) := zone_of dX3_nextOf_3 rfl
theorem Z_X3_nextOf_4 {σ : Type} {ret : Option FieldType} {hp : Instr → List Value → σ → (List Value → σ → Prop) → Prop} {K : Option Value → σ → Prop} {S : Nat → zL → List Value → σ → Prop} {L : zL} {s : σ} {st : List Value} : zone ret hp K cX3_nextOf S 4 L st s = (zldi L 1 fun v => S 5 L (v :: st) s) := zone_of dX3_nextOf_4 rfl
theorem Z_X3_nextOf_5 {σ : Type} {ret : Option FieldType} {hp : Instr → List Value → σ → (List Value → σ → Prop) → Prop} {K : Option Value → σ → Prop} {S : Nat → zL → List Value → σ → Prop} {L : zL} {s : σ} {st : List Value} : zone ret hp K cX3_nextOf S 5 L st s = (hp (.invokevirtual 484) st s (fun st' s' => S 8 L st' s')) := zone_of dX3_nextOf_5 rfl
theorem Z_X3_nextOf_8 {σ : Type} {ret : Option FieldType} {hp : Instr → List Value → σ → (List Value → σ → Prop) → Prop} {K : Option Value → σ → Prop} {S : Nat → zL → List Value → σ → Prop} {L : zL} {s : σ} {st : List Value} : zone ret hp K cX3_nextOf S 8 L st s = (zb1 st fun x r => if x = 0 then S 24 L r s else S 11 L r s) := zone_if_eq dX3_nextOf_8 (by decide)
theorem Z_X3_nextOf_11 {σ : Type} {ret : Option FieldType} {hp : Instr → List Value → σ → (List Value → σ → Prop) → Prop} {K : Option Value → σ → Prop} {S : Nat → zL → List Value → σ → Prop} {L : zL} {s : σ} {st : List Value} : zone ret hp K cX3_nextOf S 11 L st s = (zlda L 0 fun v => S 12 L (v :: st) s) := zone_of dX3_nextOf_11 rfl
theorem Z_X3_nextOf_12 {σ : Type} {ret : Option FieldType} {hp : Instr → List Value → σ → (List Value → σ → Prop) → Prop} {K : Option Value → σ → Prop} {S : Nat → zL → List Value → σ → Prop} {L : zL} {s : σ} {st : List Value} : zone ret hp K cX3_nextOf S 12 L st s = (hp (.getfield 67) st s (fun st' s' => S 15 L st' s')) := zone_of dX3_nextOf_12 rfl
theorem Z_X3_nextOf_15 {σ : Type} {ret : Option FieldType} {hp : Instr → List Value → σ → (List Value → σ → Prop) → Prop} {K : Option Value → σ → Prop} {S : Nat → zL → List Value → σ → Prop} {L : zL} {s : σ} {st : List Value} : zone ret hp K cX3_nextOf S 15 L st s = (zldi L 1 fun v => S 16 L (v :: st) s) := zone_of dX3_nextOf_15 rfl
theorem Z_X3_nextOf_16 {σ : Type} {ret : Option FieldType} {hp : Instr → List Value → σ → (List Value → σ → Prop) → Prop} {K : Option Value → σ → Prop} {S : Nat → zL → List Value → σ → Prop} {L : zL} {s : σ} {st : List Value} : zone ret hp K cX3_nextOf S 16 L st s = (S 17 L (.int 1 :: st) s) := zone_iconst dX3_nextOf_16 (by decide)
theorem Z_X3_nextOf_17 {σ : Type} {ret : Option FieldType} {hp : Instr → List Value → σ → (List Value → σ → Prop) → Prop} {K : Option Value → σ → Prop} {S : Nat → zL → List Value → σ → Prop} {L : zL} {s : σ} {st : List Value} : zone ret hp K cX3_nextOf S 17 L st s = (zldi L 2 fun v => S 18 L (v :: st) s) := zone_of dX3_nextOf_17 rfl
theorem Z_X3_nextOf_18 {σ : Type} {ret : Option FieldType} {hp : Instr → List Value → σ → (List Value → σ → Prop) → Prop} {K : Option Value → σ → Prop} {S : Nat → zL → List Value → σ → Prop} {L : zL} {s : σ} {st : List Value} : zone ret hp K cX3_nextOf S 18 L st s = (zb2 st fun x y r => S 19 L (.int (x <<< (y &&& 31)) :: r) s) := zone_of dX3_nextOf_18 rfl
theorem Z_X3_nextOf_19 {σ : Type} {ret : Option FieldType} {hp : Instr → List Value → σ → (List Value → σ → Prop) → Prop} {K : Option Value → σ → Prop} {S : Nat → zL → List Value → σ → Prop} {L : zL} {s : σ} {st : List Value} : zone ret hp K cX3_nextOf S 19 L st s = (zb2 st fun x y r => S 20 L (.int (x ||| y) :: r) s) := zone_of dX3_nextOf_19 rfl
theorem Z_X3_nextOf_20 {σ : Type} {ret : Option FieldType} {hp : Instr → List Value → σ → (List Value → σ → Prop) → Prop} {K : Option Value → σ → Prop} {S : Nat → zL → List Value → σ → Prop} {L : zL} {s : σ} {st : List Value} : zone ret hp K cX3_nextOf S 20 L st s = (hp (.iaload) st s (fun st' s' => S 21 L st' s')) := zone_of dX3_nextOf_20 rfl
theorem Z_X3_nextOf_21 {σ : Type} {ret : Option FieldType} {hp : Instr → List Value → σ → (List Value → σ → Prop) → Prop} {K : Option Value → σ → Prop} {S : Nat → zL → List Value → σ → Prop} {L : zL} {s : σ} {st : List Value} : zone ret hp K cX3_nextOf S 21 L st s = (zb1 st fun x r => if x = 0 then S 24 L r s else S 30 L r s) := zone_if_ne dX3_nextOf_21 (by decide)
theorem Z_X3_nextOf_24 {σ : Type} {ret : Option FieldType} {hp : Instr → List Value → σ → (List Value → σ → Prop) → Prop} {K : Option Value → σ → Prop} {S : Nat → zL → List Value → σ → Prop} {L : zL} {s : σ} {st : List Value} : zone ret hp K cX3_nextOf S 24 L st s = (zic L 2 1 fun q => S 27 q st s) := zone_iinc dX3_nextOf_24 (by decide)
theorem Z_X3_nextOf_27 {σ : Type} {ret : Option FieldType} {hp : Instr → List Value → σ → (List Value → σ → Prop) → Prop} {K : Option Value → σ → Prop} {S : Nat → zL → List Value → σ → Prop} {L : zL} {s : σ} {st : List Value} : zone ret hp K cX3_nextOf S 27 L st s = (S 2 L st s) := zone_goto dX3_nextOf_27 (by decide)
theorem Z_X3_nextOf_30 {σ : Type} {ret : Option FieldType} {hp : Instr → List Value → σ → (List Value → σ → Prop) → Prop} {K : Option Value → σ → Prop} {S : Nat → zL → List Value → σ → Prop} {L : zL} {s : σ} {st : List Value} : zone ret hp K cX3_nextOf S 30 L st s = (zldi L 2 fun v => S 31 L (v :: st) s) := zone_of dX3_nextOf_30 rfl
theorem Z_X3_nextOf_31 {σ : Type} {ret : Option FieldType} {hp : Instr → List Value → σ → (List Value → σ → Prop) → Prop} {K : Option Value → σ → Prop} {S : Nat → zL → List Value → σ → Prop} {L : zL} {s : σ} {v : Int32} : zone ret hp K cX3_nextOf S 31 L [.int v] s = (zretI ret v ∧ K (some (.int v)) s) := zone_of dX3_nextOf_31 rfl
theorem CC_X3_nextOf_484 {b : Nat} {a0 a1 : Value} {r : List Value} {s : zM} {k : List Value → zM → Prop} : zcallV b G_X3_nextOf 484 (a1 :: a0 :: .ref b :: r) s k = (zfew r 8 = true ∧ T_X3_canCome [a0, a1] s (fun v s' => zpush v r (fun q => k q s'))) := zcV_n rfl rfl
theorem TE_X3_nextOf {set : Int32} {s : zM} {K : Option Value → zM → Prop} : T_X3_nextOf [.int set] s K = ((fun set s => ∃ k : Nat, set = nI k ∧ k < 256 ∧ ynext (s.2 17) (s.2 18) k < 8) set s ∧ K ((fun set s => some (.int (nI (ynext (s.2 17) (s.2 18) set.toNatClampNeg)))) set s) ((fun _ s => s) set s)) := rfl
set_option maxRecDepth 100000 in
set_option maxHeartbeats 4000000 in
theorem B_X3_nextOf {E : zEnv} (b : Nat) (set : Int32) (s : zM) (K : Option Value → zM → Prop) (hT : T_X3_nextOf [.int set] s K) (S : Nat → zL → List Value → zM → Prop) (hm : zMono (zMhp E b G_X3_nextOf)) (hc : zClosed (some .int) (zMhp E b G_X3_nextOf) K cX3_nextOf S) : S 0 [some (.ref b), some (.int set), none] [] s := by
  obtain ⟨⟨z, rfl, hz, hlt⟩, hK⟩ := hT
  dsimp only at hK
  rw [nI_clamp (by omega)] at hK
  unfold ynext at hlt hK
  generalize hQ : (fun i => ycan (s.2 17) i z && !decide (s.2 18 (z ||| 2 ^ i) = 0)) = Q at hlt hK
  have hno := fun k => yfst_lt (Q := Q) (n := 8) (k := k)
  have hyes := yfst_at (Q := Q) (n := 8) hlt
  generalize yfst Q 8 = X at hlt hK hno hyes
  have yor : ∀ i, i < 8 → z ||| 2 ^ i < 256 := fun i hi => yor_lt (N := 8) hz hi
  have loop : ∀ n k : Nat, k + n = X → S 2 [some (.ref b), some (.int (nI z)), some (.int (nI k))] [] s := by
    intro n
    induction n with
    | zero =>
      intro k hk
      obtain rfl : k = X := by omega
      have hpi := ypow (show k < 9 by omega)
      have hl := yor k hlt
      rw [← hQ] at hyes
      simp only [Bool.and_eq_true, Bool.not_eq_true', decide_eq_false_iff_not] at hyes
      obtain ⟨h1, h2⟩ := hyes
      unfold ycan at h1
      refine zgo hm hc (fun q => q == 2) 60 ?_
      simp (config := {decide := true, maxSteps := 1000000}) (disch := first | rfl | decide | omega) only [↓Z_X3_nextOf_0, ↓Z_X3_nextOf_1, ↓Z_X3_nextOf_2, ↓Z_X3_nextOf_3, ↓Z_X3_nextOf_4, ↓Z_X3_nextOf_5, ↓Z_X3_nextOf_8, ↓Z_X3_nextOf_11, ↓Z_X3_nextOf_12, ↓Z_X3_nextOf_15, ↓Z_X3_nextOf_16, ↓Z_X3_nextOf_17, ↓Z_X3_nextOf_18, ↓Z_X3_nextOf_19, ↓Z_X3_nextOf_20, ↓Z_X3_nextOf_21, ↓Z_X3_nextOf_24, ↓Z_X3_nextOf_27, ↓Z_X3_nextOf_30, ↓Z_X3_nextOf_31, ↓reduceIte, ↓zrun_stop, ↓zrun_step, ↓zb2_i, ↓zb1_i, ↓zldi_0, ↓zldi_s, ↓zlda_0, ↓zlda_n, ↓zlda_s, ↓zsc_0, ↓zsc_s, ↓zsti_c, ↓zsta_r, ↓zsta_n, ↓zic_0, ↓zic_s, ↓zpush_s, ↓zpush_n, ↓zfew_0, ↓zfew_i, ↓zfew_r, ↓zfew_n, ↓zMg'_67, ↓zMhp_iV, ↓zMl_1, ↓zMl_10, ↓zMl_11, ↓zMl_12, ↓zMl_13, ↓zMl_14, ↓zMl_15, ↓zMl_16, ↓zMl_17, ↓zMl_18, ↓zMl_2, ↓zMl_3, ↓zMl_4, ↓zMl_5, ↓zMl_6, ↓zMl_7, ↓zMl_8, ↓zMl_9, ↓CC_X3_nextOf_484, ↓TE_X3_canCome, zcat_int, zcat_ref, zcat_null, zret_int, zret_b0, zret_b1, zret_b, Nat.reduceAdd, Nat.reduceSub, Nat.reduceLT, Nat.reduceEqDiff, Nat.reduceBEq, Nat.reduceBNe, true_and, and_true, if_true, if_false, Bool.false_eq_true, Bool.true_eq_false, Bool.or_self, Bool.or_false, Bool.or_true, Bool.false_or, Bool.true_or, zbi_e0, zbi_e1, eq_self, reduceCtorEq, Fin.isValue, zent, List.map_cons, List.map_nil, List.length_cons, List.length_nil, List.replicate, List.cons_append, List.nil_append, List.append_nil, Nat.zero_add, Nat.add_zero, zF_1, zF_2, zA_1, zA_2s, zA_2n, zB_1, zB_2s, zB_2n, not_true_eq_false, not_false_eq_true, Int32.reduceLT, Int32.reduceAdd, Int32.reduceSub, Int32.reduceMul, ne_eq, Int32.reduceToNatClampNeg, zlit_vp, nI_al, nI_la, nI_lm, nI_ml, nI_ltl, nI_llt, nI_eql, nI_lt2, nI_eq2, nI_vp, nI_cl, nI_add, pk_mul, nI_divl, nI_sub2, nI_lsub, nI_ne0l, nI_1, nI_pred, pk_m1, upd_s, upd_n, Nat.lt_irrefl, decide_eq_false_iff_not, decide_eq_true_eq, ite_not, ite_self, Nat.reducePow, Nat.reduceMul, hpi, nI_or, hl, h1, h2]
      exact hK
    | succ n ih =>
      intro k hk
      have hpi := ypow (show k < 9 by omega)
      have hl := yor k (by omega)
      have h0 := hno k (by omega)
      have ih := ih (k + 1) (by omega)
      rw [← hQ] at h0
      cases c : ycan (s.2 17) k z
      · have c' := c
        unfold ycan at c'
        refine zgo hm hc (fun q => q == 2) 60 ?_
        simp (config := {decide := true, maxSteps := 1000000}) (disch := first | rfl | decide | omega) only [↓Z_X3_nextOf_0, ↓Z_X3_nextOf_1, ↓Z_X3_nextOf_2, ↓Z_X3_nextOf_3, ↓Z_X3_nextOf_4, ↓Z_X3_nextOf_5, ↓Z_X3_nextOf_8, ↓Z_X3_nextOf_11, ↓Z_X3_nextOf_12, ↓Z_X3_nextOf_15, ↓Z_X3_nextOf_16, ↓Z_X3_nextOf_17, ↓Z_X3_nextOf_18, ↓Z_X3_nextOf_19, ↓Z_X3_nextOf_20, ↓Z_X3_nextOf_21, ↓Z_X3_nextOf_24, ↓Z_X3_nextOf_27, ↓Z_X3_nextOf_30, ↓Z_X3_nextOf_31, ↓reduceIte, ↓zrun_stop, ↓zrun_step, ↓zb2_i, ↓zb1_i, ↓zldi_0, ↓zldi_s, ↓zlda_0, ↓zlda_n, ↓zlda_s, ↓zsc_0, ↓zsc_s, ↓zsti_c, ↓zsta_r, ↓zsta_n, ↓zic_0, ↓zic_s, ↓zpush_s, ↓zpush_n, ↓zfew_0, ↓zfew_i, ↓zfew_r, ↓zfew_n, ↓zMg'_67, ↓zMhp_iV, ↓zMl_1, ↓zMl_10, ↓zMl_11, ↓zMl_12, ↓zMl_13, ↓zMl_14, ↓zMl_15, ↓zMl_16, ↓zMl_17, ↓zMl_18, ↓zMl_2, ↓zMl_3, ↓zMl_4, ↓zMl_5, ↓zMl_6, ↓zMl_7, ↓zMl_8, ↓zMl_9, ↓CC_X3_nextOf_484, ↓TE_X3_canCome, zcat_int, zcat_ref, zcat_null, zret_int, zret_b0, zret_b1, zret_b, Nat.reduceAdd, Nat.reduceSub, Nat.reduceLT, Nat.reduceEqDiff, Nat.reduceBEq, Nat.reduceBNe, true_and, and_true, if_true, if_false, Bool.false_eq_true, Bool.true_eq_false, Bool.or_self, Bool.or_false, Bool.or_true, Bool.false_or, Bool.true_or, zbi_e0, zbi_e1, eq_self, reduceCtorEq, Fin.isValue, zent, List.map_cons, List.map_nil, List.length_cons, List.length_nil, List.replicate, List.cons_append, List.nil_append, List.append_nil, Nat.zero_add, Nat.add_zero, zF_1, zF_2, zA_1, zA_2s, zA_2n, zB_1, zB_2s, zB_2n, not_true_eq_false, not_false_eq_true, Int32.reduceLT, Int32.reduceAdd, Int32.reduceSub, Int32.reduceMul, ne_eq, Int32.reduceToNatClampNeg, zlit_vp, nI_al, nI_la, nI_lm, nI_ml, nI_ltl, nI_llt, nI_eql, nI_lt2, nI_eq2, nI_vp, nI_cl, nI_add, pk_mul, nI_divl, nI_sub2, nI_lsub, nI_ne0l, nI_1, nI_pred, pk_m1, upd_s, upd_n, Nat.lt_irrefl, decide_eq_false_iff_not, decide_eq_true_eq, ite_not, ite_self, Nat.reducePow, Nat.reduceMul, hpi, nI_or, hl, c']
        exact ih
      · dsimp only at h0
        rw [c, Bool.true_and] at h0
        have h2 : s.2 18 (z ||| 2 ^ k) = 0 := by simpa using h0
        have c' := c
        unfold ycan at c'
        refine zgo hm hc (fun q => q == 2) 60 ?_
        simp (config := {decide := true, maxSteps := 1000000}) (disch := first | rfl | decide | omega) only [↓Z_X3_nextOf_0, ↓Z_X3_nextOf_1, ↓Z_X3_nextOf_2, ↓Z_X3_nextOf_3, ↓Z_X3_nextOf_4, ↓Z_X3_nextOf_5, ↓Z_X3_nextOf_8, ↓Z_X3_nextOf_11, ↓Z_X3_nextOf_12, ↓Z_X3_nextOf_15, ↓Z_X3_nextOf_16, ↓Z_X3_nextOf_17, ↓Z_X3_nextOf_18, ↓Z_X3_nextOf_19, ↓Z_X3_nextOf_20, ↓Z_X3_nextOf_21, ↓Z_X3_nextOf_24, ↓Z_X3_nextOf_27, ↓Z_X3_nextOf_30, ↓Z_X3_nextOf_31, ↓reduceIte, ↓zrun_stop, ↓zrun_step, ↓zb2_i, ↓zb1_i, ↓zldi_0, ↓zldi_s, ↓zlda_0, ↓zlda_n, ↓zlda_s, ↓zsc_0, ↓zsc_s, ↓zsti_c, ↓zsta_r, ↓zsta_n, ↓zic_0, ↓zic_s, ↓zpush_s, ↓zpush_n, ↓zfew_0, ↓zfew_i, ↓zfew_r, ↓zfew_n, ↓zMg'_67, ↓zMhp_iV, ↓zMl_1, ↓zMl_10, ↓zMl_11, ↓zMl_12, ↓zMl_13, ↓zMl_14, ↓zMl_15, ↓zMl_16, ↓zMl_17, ↓zMl_18, ↓zMl_2, ↓zMl_3, ↓zMl_4, ↓zMl_5, ↓zMl_6, ↓zMl_7, ↓zMl_8, ↓zMl_9, ↓CC_X3_nextOf_484, ↓TE_X3_canCome, zcat_int, zcat_ref, zcat_null, zret_int, zret_b0, zret_b1, zret_b, Nat.reduceAdd, Nat.reduceSub, Nat.reduceLT, Nat.reduceEqDiff, Nat.reduceBEq, Nat.reduceBNe, true_and, and_true, if_true, if_false, Bool.false_eq_true, Bool.true_eq_false, Bool.or_self, Bool.or_false, Bool.or_true, Bool.false_or, Bool.true_or, zbi_e0, zbi_e1, eq_self, reduceCtorEq, Fin.isValue, zent, List.map_cons, List.map_nil, List.length_cons, List.length_nil, List.replicate, List.cons_append, List.nil_append, List.append_nil, Nat.zero_add, Nat.add_zero, zF_1, zF_2, zA_1, zA_2s, zA_2n, zB_1, zB_2s, zB_2n, not_true_eq_false, not_false_eq_true, Int32.reduceLT, Int32.reduceAdd, Int32.reduceSub, Int32.reduceMul, ne_eq, Int32.reduceToNatClampNeg, zlit_vp, nI_al, nI_la, nI_lm, nI_ml, nI_ltl, nI_llt, nI_eql, nI_lt2, nI_eq2, nI_vp, nI_cl, nI_add, pk_mul, nI_divl, nI_sub2, nI_lsub, nI_ne0l, nI_1, nI_pred, pk_m1, upd_s, upd_n, Nat.lt_irrefl, decide_eq_false_iff_not, decide_eq_true_eq, ite_not, ite_self, Nat.reducePow, Nat.reduceMul, hpi, nI_or, hl, c', h2]
        exact ih
  refine zgo hm hc (fun q => q == 2) 60 ?_
  simp (config := {decide := true, maxSteps := 1000000}) (disch := first | rfl | decide | omega) only [↓Z_X3_nextOf_0, ↓Z_X3_nextOf_1, ↓Z_X3_nextOf_2, ↓Z_X3_nextOf_3, ↓Z_X3_nextOf_4, ↓Z_X3_nextOf_5, ↓Z_X3_nextOf_8, ↓Z_X3_nextOf_11, ↓Z_X3_nextOf_12, ↓Z_X3_nextOf_15, ↓Z_X3_nextOf_16, ↓Z_X3_nextOf_17, ↓Z_X3_nextOf_18, ↓Z_X3_nextOf_19, ↓Z_X3_nextOf_20, ↓Z_X3_nextOf_21, ↓Z_X3_nextOf_24, ↓Z_X3_nextOf_27, ↓Z_X3_nextOf_30, ↓Z_X3_nextOf_31, ↓reduceIte, ↓zrun_stop, ↓zrun_step, ↓zb2_i, ↓zb1_i, ↓zldi_0, ↓zldi_s, ↓zlda_0, ↓zlda_n, ↓zlda_s, ↓zsc_0, ↓zsc_s, ↓zsti_c, ↓zsta_r, ↓zsta_n, ↓zic_0, ↓zic_s, ↓zpush_s, ↓zpush_n, ↓zfew_0, ↓zfew_i, ↓zfew_r, ↓zfew_n, ↓zMg'_67, ↓zMhp_iV, ↓zMl_1, ↓zMl_10, ↓zMl_11, ↓zMl_12, ↓zMl_13, ↓zMl_14, ↓zMl_15, ↓zMl_16, ↓zMl_17, ↓zMl_18, ↓zMl_2, ↓zMl_3, ↓zMl_4, ↓zMl_5, ↓zMl_6, ↓zMl_7, ↓zMl_8, ↓zMl_9, ↓CC_X3_nextOf_484, ↓TE_X3_canCome, zcat_int, zcat_ref, zcat_null, zret_int, zret_b0, zret_b1, zret_b, Nat.reduceAdd, Nat.reduceSub, Nat.reduceLT, Nat.reduceEqDiff, Nat.reduceBEq, Nat.reduceBNe, true_and, and_true, if_true, if_false, Bool.false_eq_true, Bool.true_eq_false, Bool.or_self, Bool.or_false, Bool.or_true, Bool.false_or, Bool.true_or, zbi_e0, zbi_e1, eq_self, reduceCtorEq, Fin.isValue, zent, List.map_cons, List.map_nil, List.length_cons, List.length_nil, List.replicate, List.cons_append, List.nil_append, List.append_nil, Nat.zero_add, Nat.add_zero, zF_1, zF_2, zA_1, zA_2s, zA_2n, zB_1, zB_2s, zB_2n, not_true_eq_false, not_false_eq_true, Int32.reduceLT, Int32.reduceAdd, Int32.reduceSub, Int32.reduceMul, ne_eq, Int32.reduceToNatClampNeg, zlit_vp, nI_al, nI_la, nI_lm, nI_ml, nI_ltl, nI_llt, nI_eql, nI_lt2, nI_eq2, nI_vp, nI_cl, nI_add, pk_mul, nI_divl, nI_sub2, nI_lsub, nI_ne0l, nI_1, nI_pred, pk_m1, upd_s, upd_n, Nat.lt_irrefl, decide_eq_false_iff_not, decide_eq_true_eq, ite_not, ite_self, Nat.reducePow, Nat.reduceMul]
  exact loop X 0 (by omega)
theorem MS_X3_nextOf {l : Launch} {E : zEnv} {b0 : Nat} : zMS l E b0 1 yX3_nextOf (ws_ yX3_nextOf cX3_nextOf 3 (some .int)) 0 0 (zlV E T_X3_nextOf) := by
  refine zM_MS (Γ := G_X3_nextOf) rfl (zΓok_cons (IM_X3_canCome (by decide)) zΓok_nil) (fun as s K h => ?_) ?_
  · have h1 := zf1_a as s K h
    exact ⟨by rw [h1.1]; decide, h1.2⟩
  · intro b as s K hT S hm hc
    have h0 := hT
    unfold T_X3_nextOf zf1 at h0
    split at h0
    · exact B_X3_nextOf b _ s K hT S hm hc
    · exact h0.elim
theorem IM_X3_nextOf {l : Launch} {E : zEnv} {b0 d0 : Nat} (hd : 1 + 1 ≤ d0) : zΓokq l E b0 d0 (490, true, 1, T_X3_nextOf) := ⟨zf1_m, (fun _ => zInv.V MS_X3_nextOf hd (by decide) (lw_V q1949 q1951 qs142 q158 q1952) (by decide +kernel) rfl rfl), fun h => nomatch h⟩
/-- the set behind k steps, and the step that was last -/
def yline2 (ah O : Nat → Int32) : Nat → Nat × Int32
  | 0 => (0, -1)
  | k + 1 => ((yline2 ah O k).1 ||| 2 ^ ynext ah O (yline2 ah O k).1, nI (ynext ah O (yline2 ah O k).1))
/-- how many of the first n are not in a set -/
def yout (set n : Nat) : Nat := ynf (fun i => if set.testBit i = true then 0 else 1) n
theorem ynf_0 {f : Nat → Nat} : ∀ n, (∀ i, i < n → f i = 0) → ynf f n = 0
  | 0, _ => rfl
  | n + 1, h => by
    show ynf f n + f n = 0
    rw [ynf_0 n (fun i hi => h i (by omega)), h n (by omega)]
theorem ynf_up {f g : Nat → Nat} {k : Nat} : ∀ n, k < n → (∀ i, i < n → i ≠ k → f i = g i) → g k = f k + 1 → ynf g n = ynf f n + 1
  | 0, hk, _, _ => by omega
  | n + 1, hk, h, hl => by
    show ynf g n + g n = ynf f n + f n + 1
    by_cases e : k = n
    · subst e
      have : ∀ m, m ≤ k → ynf g m = ynf f m := by
        intro m
        induction m with
        | zero => intro _; rfl
        | succ m ih =>
          intro hm2
          show ynf g m + g m = ynf f m + f m
          rw [ih (by omega), h m (by omega) (by omega)]
      rw [this k (Nat.le_refl _)]
      omega
    · have := ynf_up n (by omega) (fun i hi hn => h i (by omega) hn) hl
      have := h n (by omega) (by omega)
      omega
theorem yout_or {set n i : Nat} (hi : i < n) (h : set.testBit i = false) : yout set n = yout (set ||| 2 ^ i) n + 1 := by
  unfold yout
  refine ynf_up (k := i) n hi (fun j hj hn => ?_) ?_
  · rw [Nat.testBit_or, Nat.testBit_two_pow_of_ne (by omega), Bool.or_false]
  · rw [Nat.testBit_or, Nat.testBit_two_pow_self, h]
    simp
theorem yout_all {n : Nat} : yout (2 ^ n - 1) n = 0 := by
  unfold yout
  refine ynf_0 n (fun i hi => ?_)
  rw [Nat.testBit_two_pow_sub_one, decide_eq_true hi]
  rfl
theorem yout_0 : ∀ n, yout 0 n = n
  | 0 => rfl
  | n + 1 => by
    have := yout_0 n
    unfold yout at *
    show ynf _ n + _ = n + 1
    rw [this]
    simp
/-- where the count of a set stands, once all is laid -/
theorem yon_lo {ah o0 : Nat → Int32} {N P : Nat} : ∀ j, j ≤ P → ∀ x, x + j < P → yon ah o0 N P j x = o0 x
  | 0, _, _, _ => rfl
  | j + 1, hj, x, hx => by
    rw [yon, upd_n (by omega)]
    exact yon_lo j (by omega) x (by omega)
theorem yon_hi {ah o0 : Nat → Int32} {N P : Nat} : ∀ (d j x : Nat), j + d ≤ P → P ≤ x + j → yon ah o0 N P (j + d) x = yon ah o0 N P j x
  | 0, _, _, _, _ => rfl
  | d + 1, j, x, h, hx => by
    rw [show j + (d + 1) = (j + d) + 1 by omega, yon, upd_n (by omega)]
    exact yon_hi d j x (by omega) hx
theorem yfold_c {f g : Nat → Int32 → Int32} {a : Int32} : ∀ n, (∀ i b, i < n → f i b = g i b) → yfold f a n = yfold g a n
  | 0, _ => rfl
  | n + 1, h => by
    rw [yfold_s, yfold_s, yfold_c n (fun i b hi => h i b (by omega)), h n _ (by omega)]
theorem yon_eq {ah o0 : Nat → Int32} {N x : Nat} (hN : N < 9) (hx : x < 2 ^ N) : yon ah o0 N (2 ^ N) (2 ^ N) x = yfold (yon1 ah (yon ah o0 N (2 ^ N) (2 ^ N)) x) (if x = 2 ^ N - 1 then 1 else 0) N := by
  generalize hP : 2 ^ N = P at *
  have h1 : yon ah o0 N P P x = yon ah o0 N P (P - 1 - x + 1) x := by
    have := yon_hi (ah := ah) (o0 := o0) (N := N) (P := P) x (P - 1 - x + 1) x (by omega) (by omega)
    rw [show P - 1 - x + 1 + x = P by omega] at this
    exact this
  rw [h1, yon, show P - 1 - (P - 1 - x) = x by omega, upd_s]
  rw [show (if P - 1 - x = 0 then (1 : Int32) else 0) = (if x = P - 1 then 1 else 0) by
    by_cases c : x = P - 1
    · rw [if_pos c, if_pos (by omega)]
    · rw [if_neg c, if_neg (by omega)]]
  refine yfold_c N (fun i b hi => ?_)
  unfold yon1
  cases c : ycan ah i x
  · rfl
  · rw [if_pos rfl, if_pos rfl]
    have hne := ycan_ne (by omega) c
    have hle : x ≤ x ||| 2 ^ i := Nat.left_le_or
    have := yon_hi (ah := ah) (o0 := o0) (N := N) (P := P) (x + 1) (P - 1 - x) (x ||| 2 ^ i) (by omega) (by omega)
    rw [show P - 1 - x + (x + 1) = P by omega] at this
    rw [this]
theorem yfst_of {Q : Nat → Bool} {n i : Nat} (hi : i < n) (h : Q i = true) : yfst Q n ≤ i := by
  by_cases c : yfst Q n ≤ i
  · exact c
  · have := yfst_lt (Q := Q) (n := n) (k := i) (by omega)
    rw [h] at this
    cases this
theorem ynext_lt {ah o0 : Nat → Int32} {N x : Nat} (hN : N < 9) (hx : x < 2 ^ N) (ho : ¬ yon ah o0 N (2 ^ N) (2 ^ N) x = 0) (hall : x ≠ 2 ^ N - 1) : ynext ah (yon ah o0 N (2 ^ N) (2 ^ N)) x < N := by
  by_cases c : ∃ i, i < N ∧ (ycan ah i x && !decide (yon ah o0 N (2 ^ N) (2 ^ N) (x ||| 2 ^ i) = 0)) = true
  · obtain ⟨i, hi, h⟩ := c
    exact Nat.lt_of_le_of_lt (yfst_of (Q := fun i => ycan ah i x && !decide (yon ah o0 N (2 ^ N) (2 ^ N) (x ||| 2 ^ i) = 0)) (n := 8) (by omega) h) hi
  · refine absurd ?_ ho
    rw [yon_eq hN hx, if_neg hall]
    have e : yfold (yon1 ah (yon ah o0 N (2 ^ N) (2 ^ N)) x) 0 N = yfold (fun _ b => b) 0 N := yfold_c N (fun i b hi => by
      unfold yon1
      cases c1 : ycan ah i x
      · simp
      · by_cases c2 : yon ah o0 N (2 ^ N) (2 ^ N) (x ||| 2 ^ i) = 0
        · simp [c2]
        · exact absurd ⟨i, hi, by simp [c1, c2]⟩ c)
    rw [e]
    exact yfold_id (fun _ => rfl) N
theorem ynext_ok {ah O : Nat → Int32} {x : Nat} (h : ynext ah O x < 8) : ycan ah (ynext ah O x) x = true ∧ ¬ O (x ||| 2 ^ ynext ah O x) = 0 := by
  unfold ynext at h ⊢
  have := yfst_at (Q := fun i => ycan ah i x && !decide (O (x ||| 2 ^ i) = 0)) (n := 8) h
  simpa using this
theorem yline2_ok {ah o0 : Nat → Int32} {N : Nat} (hN : N < 9) (h0 : ¬ yon ah o0 N (2 ^ N) (2 ^ N) 0 = 0) : ∀ k, k ≤ N → (yline2 ah (yon ah o0 N (2 ^ N) (2 ^ N)) k).1 < 2 ^ N ∧ ¬ yon ah o0 N (2 ^ N) (2 ^ N) (yline2 ah (yon ah o0 N (2 ^ N) (2 ^ N)) k).1 = 0 ∧ yout (yline2 ah (yon ah o0 N (2 ^ N) (2 ^ N)) k).1 N + k = N
  | 0, _ => ⟨Nat.two_pow_pos N, h0, yout_0 N⟩
  | k + 1, hk => by
    obtain ⟨h1, h2, h3⟩ := yline2_ok hN h0 k (by omega)
    generalize hO : yon ah o0 N (2 ^ N) (2 ^ N) = O at *
    rw [yline2]
    dsimp only
    generalize (yline2 ah O k).1 = z at h1 h2 h3 ⊢
    have hall : z ≠ 2 ^ N - 1 := by
      intro e
      rw [e, yout_all] at h3
      omega
    have hx : ynext ah O z < N := by
      rw [← hO] at h2 ⊢
      exact ynext_lt hN h1 h2 hall
    obtain ⟨g1, g2⟩ := ynext_ok (show ynext ah O z < 8 by omega)
    refine ⟨yor_lt h1 hx, g2, ?_⟩
    have hb : z.testBit (ynext ah O z) = false := by
      unfold ycan at g1
      rw [ybit_nI (by omega)] at g1
      cases c : z.testBit (ynext ah O z)
      · rfl
      · rw [c] at g1; simp at g1
    have := yout_or hx hb
    omega
def yordersR (s : zM) (x : Int32) : Int32 :=
  if (decide (x = 0) || yin x 10 (9 + s.2 1 98)) = true then
    (if yon (yahead (s.2 1) (s.2 17) (s.2 1 104).toNatClampNeg) (s.2 18) (s.2 1 98).toNatClampNeg (2 ^ (s.2 1 98).toNatClampNeg) (2 ^ (s.2 1 98).toNatClampNeg) 0 = 0 then (if x = 0 then 0 else -1)
     else if x = 0 then yon (yahead (s.2 1) (s.2 17) (s.2 1 104).toNatClampNeg) (s.2 18) (s.2 1 98).toNatClampNeg (2 ^ (s.2 1 98).toNatClampNeg) (2 ^ (s.2 1 98).toNatClampNeg) 0
     else (yline2 (yahead (s.2 1) (s.2 17) (s.2 1 104).toNatClampNeg) (yon (yahead (s.2 1) (s.2 17) (s.2 1 104).toNatClampNeg) (s.2 18) (s.2 1 98).toNatClampNeg (2 ^ (s.2 1 98).toNatClampNeg) (2 ^ (s.2 1 98).toNatClampNeg)) (x.toNatClampNeg - 9)).2)
  else -1
def T_X3_orders : zT zM := zr1 (fun _ s => ywf (s.2 1) ∧ ycouples (s.2 1)) (fun x s => some (.int (yordersR s x)))
abbrev G_X3_orders : zΓ zM := [(77, false, 3, T_X3_isIn), (487, true, 0, T_X3_laysOrders), (490, true, 1, T_X3_nextOf)]
theorem Z_X3_orders_0 {σ : Type} {ret : Option FieldType} {hp : Instr → List Value → σ → (List Value → σ → Prop) → Prop} {K : Option Value → σ → Prop} {S : Nat → zL → List Value → σ → Prop} {L : zL} {s : σ} {st : List Value} : zone ret hp K cX3_orders S 0 L st s = (zldi L 1 fun v => S 1 L (v :: st) s) := zone_of dX3_orders_0 rfl
theorem Z_X3_orders_1 {σ : Type} {ret : Option FieldType} {hp : Instr → List Value → σ → (List Value → σ → Prop) → Prop} {K : Option Value → σ → Prop} {S : Nat → zL → List Value → σ → Prop} {L : zL} {s : σ} {st : List Value} : zone ret hp K cX3_orders S 1 L st s = (zb1 st fun x r => if x = 0 then S 25 L r s else S 4 L r s) := zone_if_eq dX3_orders_1 (by decide)
theorem Z_X3_orders_4 {σ : Type} {ret : Option FieldType} {hp : Instr → List Value → σ → (List Value → σ → Prop) → Prop} {K : Option Value → σ → Prop} {S : Nat → zL → List Value → σ → Prop} {L : zL} {s : σ} {st : List Value} : zone ret hp K cX3_orders S 4 L st s = (zldi L 1 fun v => S 5 L (v :: st) s) := zone_of dX3_orders_4 rfl
theorem Z_X3_orders_5 {σ : Type} {ret : Option FieldType} {hp : Instr → List Value → σ → (List Value → σ → Prop) → Prop} {K : Option Value → σ → Prop} {S : Nat → zL → List Value → σ → Prop} {L : zL} {s : σ} {st : List Value} : zone ret hp K cX3_orders S 5 L st s = (S 7 L (.int 10 :: st) s) := zone_bipush dX3_orders_5 (by decide)
theorem Z_X3_orders_7 {σ : Type} {ret : Option FieldType} {hp : Instr → List Value → σ → (List Value → σ → Prop) → Prop} {K : Option Value → σ → Prop} {S : Nat → zL → List Value → σ → Prop} {L : zL} {s : σ} {st : List Value} : zone ret hp K cX3_orders S 7 L st s = (S 9 L (.int 9 :: st) s) := zone_bipush dX3_orders_7 (by decide)
theorem Z_X3_orders_9 {σ : Type} {ret : Option FieldType} {hp : Instr → List Value → σ → (List Value → σ → Prop) → Prop} {K : Option Value → σ → Prop} {S : Nat → zL → List Value → σ → Prop} {L : zL} {s : σ} {st : List Value} : zone ret hp K cX3_orders S 9 L st s = (zlda L 0 fun v => S 10 L (v :: st) s) := zone_of dX3_orders_9 rfl
theorem Z_X3_orders_10 {σ : Type} {ret : Option FieldType} {hp : Instr → List Value → σ → (List Value → σ → Prop) → Prop} {K : Option Value → σ → Prop} {S : Nat → zL → List Value → σ → Prop} {L : zL} {s : σ} {st : List Value} : zone ret hp K cX3_orders S 10 L st s = (hp (.getfield 7) st s (fun st' s' => S 13 L st' s')) := zone_of dX3_orders_10 rfl
theorem Z_X3_orders_13 {σ : Type} {ret : Option FieldType} {hp : Instr → List Value → σ → (List Value → σ → Prop) → Prop} {K : Option Value → σ → Prop} {S : Nat → zL → List Value → σ → Prop} {L : zL} {s : σ} {st : List Value} : zone ret hp K cX3_orders S 13 L st s = (S 15 L (.int 98 :: st) s) := zone_bipush dX3_orders_13 (by decide)
theorem Z_X3_orders_15 {σ : Type} {ret : Option FieldType} {hp : Instr → List Value → σ → (List Value → σ → Prop) → Prop} {K : Option Value → σ → Prop} {S : Nat → zL → List Value → σ → Prop} {L : zL} {s : σ} {st : List Value} : zone ret hp K cX3_orders S 15 L st s = (hp (.iaload) st s (fun st' s' => S 16 L st' s')) := zone_of dX3_orders_15 rfl
theorem Z_X3_orders_16 {σ : Type} {ret : Option FieldType} {hp : Instr → List Value → σ → (List Value → σ → Prop) → Prop} {K : Option Value → σ → Prop} {S : Nat → zL → List Value → σ → Prop} {L : zL} {s : σ} {st : List Value} : zone ret hp K cX3_orders S 16 L st s = (zb2 st fun x y r => S 17 L (.int (x + y) :: r) s) := zone_of dX3_orders_16 rfl
theorem Z_X3_orders_17 {σ : Type} {ret : Option FieldType} {hp : Instr → List Value → σ → (List Value → σ → Prop) → Prop} {K : Option Value → σ → Prop} {S : Nat → zL → List Value → σ → Prop} {L : zL} {s : σ} {st : List Value} : zone ret hp K cX3_orders S 17 L st s = (hp (.invokestatic 77) st s (fun st' s' => S 20 L st' s')) := zone_of dX3_orders_17 rfl
theorem Z_X3_orders_20 {σ : Type} {ret : Option FieldType} {hp : Instr → List Value → σ → (List Value → σ → Prop) → Prop} {K : Option Value → σ → Prop} {S : Nat → zL → List Value → σ → Prop} {L : zL} {s : σ} {st : List Value} : zone ret hp K cX3_orders S 20 L st s = (zb1 st fun x r => if x = 0 then S 23 L r s else S 25 L r s) := zone_if_ne dX3_orders_20 (by decide)
theorem Z_X3_orders_23 {σ : Type} {ret : Option FieldType} {hp : Instr → List Value → σ → (List Value → σ → Prop) → Prop} {K : Option Value → σ → Prop} {S : Nat → zL → List Value → σ → Prop} {L : zL} {s : σ} {st : List Value} : zone ret hp K cX3_orders S 23 L st s = (S 24 L (.int (-1) :: st) s) := zone_iconst dX3_orders_23 (by decide)
theorem Z_X3_orders_24 {σ : Type} {ret : Option FieldType} {hp : Instr → List Value → σ → (List Value → σ → Prop) → Prop} {K : Option Value → σ → Prop} {S : Nat → zL → List Value → σ → Prop} {L : zL} {s : σ} {v : Int32} : zone ret hp K cX3_orders S 24 L [.int v] s = (zretI ret v ∧ K (some (.int v)) s) := zone_of dX3_orders_24 rfl
theorem Z_X3_orders_25 {σ : Type} {ret : Option FieldType} {hp : Instr → List Value → σ → (List Value → σ → Prop) → Prop} {K : Option Value → σ → Prop} {S : Nat → zL → List Value → σ → Prop} {L : zL} {s : σ} {st : List Value} : zone ret hp K cX3_orders S 25 L st s = (zlda L 0 fun v => S 26 L (v :: st) s) := zone_of dX3_orders_25 rfl
theorem Z_X3_orders_26 {σ : Type} {ret : Option FieldType} {hp : Instr → List Value → σ → (List Value → σ → Prop) → Prop} {K : Option Value → σ → Prop} {S : Nat → zL → List Value → σ → Prop} {L : zL} {s : σ} {st : List Value} : zone ret hp K cX3_orders S 26 L st s = (hp (.invokevirtual 487) st s (fun st' s' => S 29 L st' s')) := zone_of dX3_orders_26 rfl
theorem Z_X3_orders_29 {σ : Type} {ret : Option FieldType} {hp : Instr → List Value → σ → (List Value → σ → Prop) → Prop} {K : Option Value → σ → Prop} {S : Nat → zL → List Value → σ → Prop} {L : zL} {s : σ} {st : List Value} : zone ret hp K cX3_orders S 29 L st s = (zldi L 1 fun v => S 30 L (v :: st) s) := zone_of dX3_orders_29 rfl
theorem Z_X3_orders_30 {σ : Type} {ret : Option FieldType} {hp : Instr → List Value → σ → (List Value → σ → Prop) → Prop} {K : Option Value → σ → Prop} {S : Nat → zL → List Value → σ → Prop} {L : zL} {s : σ} {st : List Value} : zone ret hp K cX3_orders S 30 L st s = (zb1 st fun x r => if x = 0 then S 33 L r s else S 40 L r s) := zone_if_ne dX3_orders_30 (by decide)
theorem Z_X3_orders_33 {σ : Type} {ret : Option FieldType} {hp : Instr → List Value → σ → (List Value → σ → Prop) → Prop} {K : Option Value → σ → Prop} {S : Nat → zL → List Value → σ → Prop} {L : zL} {s : σ} {st : List Value} : zone ret hp K cX3_orders S 33 L st s = (zlda L 0 fun v => S 34 L (v :: st) s) := zone_of dX3_orders_33 rfl
theorem Z_X3_orders_34 {σ : Type} {ret : Option FieldType} {hp : Instr → List Value → σ → (List Value → σ → Prop) → Prop} {K : Option Value → σ → Prop} {S : Nat → zL → List Value → σ → Prop} {L : zL} {s : σ} {st : List Value} : zone ret hp K cX3_orders S 34 L st s = (hp (.getfield 67) st s (fun st' s' => S 37 L st' s')) := zone_of dX3_orders_34 rfl
theorem Z_X3_orders_37 {σ : Type} {ret : Option FieldType} {hp : Instr → List Value → σ → (List Value → σ → Prop) → Prop} {K : Option Value → σ → Prop} {S : Nat → zL → List Value → σ → Prop} {L : zL} {s : σ} {st : List Value} : zone ret hp K cX3_orders S 37 L st s = (S 38 L (.int 0 :: st) s) := zone_iconst dX3_orders_37 (by decide)
theorem Z_X3_orders_38 {σ : Type} {ret : Option FieldType} {hp : Instr → List Value → σ → (List Value → σ → Prop) → Prop} {K : Option Value → σ → Prop} {S : Nat → zL → List Value → σ → Prop} {L : zL} {s : σ} {st : List Value} : zone ret hp K cX3_orders S 38 L st s = (hp (.iaload) st s (fun st' s' => S 39 L st' s')) := zone_of dX3_orders_38 rfl
theorem Z_X3_orders_39 {σ : Type} {ret : Option FieldType} {hp : Instr → List Value → σ → (List Value → σ → Prop) → Prop} {K : Option Value → σ → Prop} {S : Nat → zL → List Value → σ → Prop} {L : zL} {s : σ} {v : Int32} : zone ret hp K cX3_orders S 39 L [.int v] s = (zretI ret v ∧ K (some (.int v)) s) := zone_of dX3_orders_39 rfl
theorem Z_X3_orders_40 {σ : Type} {ret : Option FieldType} {hp : Instr → List Value → σ → (List Value → σ → Prop) → Prop} {K : Option Value → σ → Prop} {S : Nat → zL → List Value → σ → Prop} {L : zL} {s : σ} {st : List Value} : zone ret hp K cX3_orders S 40 L st s = (zlda L 0 fun v => S 41 L (v :: st) s) := zone_of dX3_orders_40 rfl
theorem Z_X3_orders_41 {σ : Type} {ret : Option FieldType} {hp : Instr → List Value → σ → (List Value → σ → Prop) → Prop} {K : Option Value → σ → Prop} {S : Nat → zL → List Value → σ → Prop} {L : zL} {s : σ} {st : List Value} : zone ret hp K cX3_orders S 41 L st s = (hp (.getfield 67) st s (fun st' s' => S 44 L st' s')) := zone_of dX3_orders_41 rfl
theorem Z_X3_orders_44 {σ : Type} {ret : Option FieldType} {hp : Instr → List Value → σ → (List Value → σ → Prop) → Prop} {K : Option Value → σ → Prop} {S : Nat → zL → List Value → σ → Prop} {L : zL} {s : σ} {st : List Value} : zone ret hp K cX3_orders S 44 L st s = (S 45 L (.int 0 :: st) s) := zone_iconst dX3_orders_44 (by decide)
theorem Z_X3_orders_45 {σ : Type} {ret : Option FieldType} {hp : Instr → List Value → σ → (List Value → σ → Prop) → Prop} {K : Option Value → σ → Prop} {S : Nat → zL → List Value → σ → Prop} {L : zL} {s : σ} {st : List Value} : zone ret hp K cX3_orders S 45 L st s = (hp (.iaload) st s (fun st' s' => S 46 L st' s')) := zone_of dX3_orders_45 rfl
theorem Z_X3_orders_46 {σ : Type} {ret : Option FieldType} {hp : Instr → List Value → σ → (List Value → σ → Prop) → Prop} {K : Option Value → σ → Prop} {S : Nat → zL → List Value → σ → Prop} {L : zL} {s : σ} {st : List Value} : zone ret hp K cX3_orders S 46 L st s = (zb1 st fun x r => if x = 0 then S 49 L r s else S 51 L r s) := zone_if_ne dX3_orders_46 (by decide)
theorem Z_X3_orders_49 {σ : Type} {ret : Option FieldType} {hp : Instr → List Value → σ → (List Value → σ → Prop) → Prop} {K : Option Value → σ → Prop} {S : Nat → zL → List Value → σ → Prop} {L : zL} {s : σ} {st : List Value} : zone ret hp K cX3_orders S 49 L st s = (S 50 L (.int (-1) :: st) s) := zone_iconst dX3_orders_49 (by decide)
theorem Z_X3_orders_50 {σ : Type} {ret : Option FieldType} {hp : Instr → List Value → σ → (List Value → σ → Prop) → Prop} {K : Option Value → σ → Prop} {S : Nat → zL → List Value → σ → Prop} {L : zL} {s : σ} {v : Int32} : zone ret hp K cX3_orders S 50 L [.int v] s = (zretI ret v ∧ K (some (.int v)) s) := zone_of dX3_orders_50 rfl
theorem Z_X3_orders_51 {σ : Type} {ret : Option FieldType} {hp : Instr → List Value → σ → (List Value → σ → Prop) → Prop} {K : Option Value → σ → Prop} {S : Nat → zL → List Value → σ → Prop} {L : zL} {s : σ} {st : List Value} : zone ret hp K cX3_orders S 51 L st s = (S 52 L (.int 0 :: st) s) := zone_iconst dX3_orders_51 (by decide)
theorem Z_X3_orders_52 {σ : Type} {ret : Option FieldType} {hp : Instr → List Value → σ → (List Value → σ → Prop) → Prop} {K : Option Value → σ → Prop} {S : Nat → zL → List Value → σ → Prop} {L : zL} {s : σ} {st : List Value} : zone ret hp K cX3_orders S 52 L st s = (zsti L 2 st fun q r => S 53 q r s) := zone_of dX3_orders_52 rfl
theorem Z_X3_orders_53 {σ : Type} {ret : Option FieldType} {hp : Instr → List Value → σ → (List Value → σ → Prop) → Prop} {K : Option Value → σ → Prop} {S : Nat → zL → List Value → σ → Prop} {L : zL} {s : σ} {st : List Value} : zone ret hp K cX3_orders S 53 L st s = (S 54 L (.int (-1) :: st) s) := zone_iconst dX3_orders_53 (by decide)
theorem Z_X3_orders_54 {σ : Type} {ret : Option FieldType} {hp : Instr → List Value → σ → (List Value → σ → Prop) → Prop} {K : Option Value → σ → Prop} {S : Nat → zL → List Value → σ → Prop} {L : zL} {s : σ} {st : List Value} : zone ret hp K cX3_orders S 54 L st s = (zsti L 3 st fun q r => S 55 q r s) := zone_of dX3_orders_54 rfl
theorem Z_X3_orders_55 {σ : Type} {ret : Option FieldType} {hp : Instr → List Value → σ → (List Value → σ → Prop) → Prop} {K : Option Value → σ → Prop} {S : Nat → zL → List Value → σ → Prop} {L : zL} {s : σ} {st : List Value} : zone ret hp K cX3_orders S 55 L st s = (S 57 L (.int 10 :: st) s) := zone_bipush dX3_orders_55 (by decide)
theorem Z_X3_orders_57 {σ : Type} {ret : Option FieldType} {hp : Instr → List Value → σ → (List Value → σ → Prop) → Prop} {K : Option Value → σ → Prop} {S : Nat → zL → List Value → σ → Prop} {L : zL} {s : σ} {st : List Value} : zone ret hp K cX3_orders S 57 L st s = (zsti L 4 st fun q r => S 59 q r s) := zone_of dX3_orders_57 rfl
theorem Z_X3_orders_59 {σ : Type} {ret : Option FieldType} {hp : Instr → List Value → σ → (List Value → σ → Prop) → Prop} {K : Option Value → σ → Prop} {S : Nat → zL → List Value → σ → Prop} {L : zL} {s : σ} {st : List Value} : zone ret hp K cX3_orders S 59 L st s = (zldi L 4 fun v => S 61 L (v :: st) s) := zone_of dX3_orders_59 rfl
theorem Z_X3_orders_61 {σ : Type} {ret : Option FieldType} {hp : Instr → List Value → σ → (List Value → σ → Prop) → Prop} {K : Option Value → σ → Prop} {S : Nat → zL → List Value → σ → Prop} {L : zL} {s : σ} {st : List Value} : zone ret hp K cX3_orders S 61 L st s = (zldi L 1 fun v => S 62 L (v :: st) s) := zone_of dX3_orders_61 rfl
theorem Z_X3_orders_62 {σ : Type} {ret : Option FieldType} {hp : Instr → List Value → σ → (List Value → σ → Prop) → Prop} {K : Option Value → σ → Prop} {S : Nat → zL → List Value → σ → Prop} {L : zL} {s : σ} {st : List Value} : zone ret hp K cX3_orders S 62 L st s = (zb2 st fun x y r => if y < x then S 83 L r s else S 65 L r s) := zone_ic_gt dX3_orders_62 (by decide)
theorem Z_X3_orders_65 {σ : Type} {ret : Option FieldType} {hp : Instr → List Value → σ → (List Value → σ → Prop) → Prop} {K : Option Value → σ → Prop} {S : Nat → zL → List Value → σ → Prop} {L : zL} {s : σ} {st : List Value} : zone ret hp K cX3_orders S 65 L st s = (zlda L 0 fun v => S 66 L (v :: st) s) := zone_of dX3_orders_65 rfl
theorem Z_X3_orders_66 {σ : Type} {ret : Option FieldType} {hp : Instr → List Value → σ → (List Value → σ → Prop) → Prop} {K : Option Value → σ → Prop} {S : Nat → zL → List Value → σ → Prop} {L : zL} {s : σ} {st : List Value} : zone ret hp K cX3_orders S 66 L st s = (zldi L 2 fun v => S 67 L (v :: st) s) := zone_of dX3_orders_66 rfl
theorem Z_X3_orders_67 {σ : Type} {ret : Option FieldType} {hp : Instr → List Value → σ → (List Value → σ → Prop) → Prop} {K : Option Value → σ → Prop} {S : Nat → zL → List Value → σ → Prop} {L : zL} {s : σ} {st : List Value} : zone ret hp K cX3_orders S 67 L st s = (hp (.invokevirtual 490) st s (fun st' s' => S 70 L st' s')) := zone_of dX3_orders_67 rfl
theorem Z_X3_orders_70 {σ : Type} {ret : Option FieldType} {hp : Instr → List Value → σ → (List Value → σ → Prop) → Prop} {K : Option Value → σ → Prop} {S : Nat → zL → List Value → σ → Prop} {L : zL} {s : σ} {st : List Value} : zone ret hp K cX3_orders S 70 L st s = (zsti L 3 st fun q r => S 71 q r s) := zone_of dX3_orders_70 rfl
theorem Z_X3_orders_71 {σ : Type} {ret : Option FieldType} {hp : Instr → List Value → σ → (List Value → σ → Prop) → Prop} {K : Option Value → σ → Prop} {S : Nat → zL → List Value → σ → Prop} {L : zL} {s : σ} {st : List Value} : zone ret hp K cX3_orders S 71 L st s = (zldi L 2 fun v => S 72 L (v :: st) s) := zone_of dX3_orders_71 rfl
theorem Z_X3_orders_72 {σ : Type} {ret : Option FieldType} {hp : Instr → List Value → σ → (List Value → σ → Prop) → Prop} {K : Option Value → σ → Prop} {S : Nat → zL → List Value → σ → Prop} {L : zL} {s : σ} {st : List Value} : zone ret hp K cX3_orders S 72 L st s = (S 73 L (.int 1 :: st) s) := zone_iconst dX3_orders_72 (by decide)
theorem Z_X3_orders_73 {σ : Type} {ret : Option FieldType} {hp : Instr → List Value → σ → (List Value → σ → Prop) → Prop} {K : Option Value → σ → Prop} {S : Nat → zL → List Value → σ → Prop} {L : zL} {s : σ} {st : List Value} : zone ret hp K cX3_orders S 73 L st s = (zldi L 3 fun v => S 74 L (v :: st) s) := zone_of dX3_orders_73 rfl
theorem Z_X3_orders_74 {σ : Type} {ret : Option FieldType} {hp : Instr → List Value → σ → (List Value → σ → Prop) → Prop} {K : Option Value → σ → Prop} {S : Nat → zL → List Value → σ → Prop} {L : zL} {s : σ} {st : List Value} : zone ret hp K cX3_orders S 74 L st s = (zb2 st fun x y r => S 75 L (.int (x <<< (y &&& 31)) :: r) s) := zone_of dX3_orders_74 rfl
theorem Z_X3_orders_75 {σ : Type} {ret : Option FieldType} {hp : Instr → List Value → σ → (List Value → σ → Prop) → Prop} {K : Option Value → σ → Prop} {S : Nat → zL → List Value → σ → Prop} {L : zL} {s : σ} {st : List Value} : zone ret hp K cX3_orders S 75 L st s = (zb2 st fun x y r => S 76 L (.int (x ||| y) :: r) s) := zone_of dX3_orders_75 rfl
theorem Z_X3_orders_76 {σ : Type} {ret : Option FieldType} {hp : Instr → List Value → σ → (List Value → σ → Prop) → Prop} {K : Option Value → σ → Prop} {S : Nat → zL → List Value → σ → Prop} {L : zL} {s : σ} {st : List Value} : zone ret hp K cX3_orders S 76 L st s = (zsti L 2 st fun q r => S 77 q r s) := zone_of dX3_orders_76 rfl
theorem Z_X3_orders_77 {σ : Type} {ret : Option FieldType} {hp : Instr → List Value → σ → (List Value → σ → Prop) → Prop} {K : Option Value → σ → Prop} {S : Nat → zL → List Value → σ → Prop} {L : zL} {s : σ} {st : List Value} : zone ret hp K cX3_orders S 77 L st s = (zic L 4 1 fun q => S 80 q st s) := zone_iinc dX3_orders_77 (by decide)
theorem Z_X3_orders_80 {σ : Type} {ret : Option FieldType} {hp : Instr → List Value → σ → (List Value → σ → Prop) → Prop} {K : Option Value → σ → Prop} {S : Nat → zL → List Value → σ → Prop} {L : zL} {s : σ} {st : List Value} : zone ret hp K cX3_orders S 80 L st s = (S 59 L st s) := zone_goto dX3_orders_80 (by decide)
theorem Z_X3_orders_83 {σ : Type} {ret : Option FieldType} {hp : Instr → List Value → σ → (List Value → σ → Prop) → Prop} {K : Option Value → σ → Prop} {S : Nat → zL → List Value → σ → Prop} {L : zL} {s : σ} {st : List Value} : zone ret hp K cX3_orders S 83 L st s = (zldi L 3 fun v => S 84 L (v :: st) s) := zone_of dX3_orders_83 rfl
theorem Z_X3_orders_84 {σ : Type} {ret : Option FieldType} {hp : Instr → List Value → σ → (List Value → σ → Prop) → Prop} {K : Option Value → σ → Prop} {S : Nat → zL → List Value → σ → Prop} {L : zL} {s : σ} {v : Int32} : zone ret hp K cX3_orders S 84 L [.int v] s = (zretI ret v ∧ K (some (.int v)) s) := zone_of dX3_orders_84 rfl
theorem CC_X3_orders_77 {a0 a1 a2 : Value} {r : List Value} {s : zM} {k : List Value → zM → Prop} : zcallS G_X3_orders 77 (a2 :: a1 :: a0 :: r) s k = (zfew r 8 = true ∧ T_X3_isIn [a0, a1, a2] s (fun v s' => zpush v r (fun q => k q s'))) := zcS_n rfl rfl
theorem CC_X3_orders_487 {b : Nat} {r : List Value} {s : zM} {k : List Value → zM → Prop} : zcallV b G_X3_orders 487 (.ref b :: r) s k = (zfew r 8 = true ∧ T_X3_laysOrders [] s (fun v s' => zpush v r (fun q => k q s'))) := zcV_n rfl rfl
theorem CC_X3_orders_490 {b : Nat} {a0 : Value} {r : List Value} {s : zM} {k : List Value → zM → Prop} : zcallV b G_X3_orders 490 (a0 :: .ref b :: r) s k = (zfew r 8 = true ∧ T_X3_nextOf [a0] s (fun v s' => zpush v r (fun q => k q s'))) := zcV_n rfl rfl
theorem TE_X3_orders {x : Int32} {s : zM} {K : Option Value → zM → Prop} : T_X3_orders [.int x] s K = ((fun _ s => ywf (s.2 1) ∧ ycouples (s.2 1)) x s ∧ ∀ u9 : zM, zes s u9 → K ((fun x s => some (.int (yordersR s x))) x s) u9) := rfl
set_option maxRecDepth 100000 in
set_option maxHeartbeats 4000000 in
theorem B_X3_orders {E : zEnv} (b : Nat) (x : Int32) (s : zM) (K : Option Value → zM → Prop) (hT : T_X3_orders [.int x] s K) (S : Nat → zL → List Value → zM → Prop) (hm : zMono (zMhp E b G_X3_orders)) (hc : zClosed (some .int) (zMhp E b G_X3_orders) K cX3_orders S) : S 0 [some (.ref b), some (.int x), none, none, none] [] s := by
  obtain ⟨⟨hwf, hcp⟩, hK⟩ := hT
  dsimp only at hwf hcp hK
  unfold yordersR at hK
  obtain ⟨N, hN, eN⟩ := vp_in_of hwf.2.2.2.2.2.2.1 (by decide)
  have hall : (s.2 1 98).toNatClampNeg = N := by rw [eN, nI_clamp (by omega)]
  rw [hall] at hK
  generalize hA : yahead (s.2 1) (s.2 17) (s.2 1 104).toNatClampNeg = A at hK
  have hok := fun h0 => yline2_ok (ah := A) (o0 := s.2 18) hN h0
  have hpos := Nat.two_pow_pos N
  have hp := ypow_le hN
  have hnx := fun x => ynext_lt (ah := A) (o0 := s.2 18) (x := x) hN
  have hyo := yout_all (n := N)
  generalize hO : yon A (s.2 18) N (2 ^ N) (2 ^ N) = O at hK hok hnx
  have hz : zes s (zB (zB s 17 A) 18 O) := (zes.rf.B (by decide) (by decide) (by decide) (by decide)).B (by decide) (by decide) (by decide) (by decide)
  by_cases c : x = 0
  · subst c
    simp (config := {decide := true}) only [decide_true, Bool.true_or, if_true] at hK
    refine zgo hm hc (fun q => q == 59) 60 ?_
    simp (config := {decide := true, maxSteps := 1000000}) (disch := first | rfl | decide | omega) only [↓Z_X3_orders_0, ↓Z_X3_orders_1, ↓Z_X3_orders_4, ↓Z_X3_orders_5, ↓Z_X3_orders_7, ↓Z_X3_orders_9, ↓Z_X3_orders_10, ↓Z_X3_orders_13, ↓Z_X3_orders_15, ↓Z_X3_orders_16, ↓Z_X3_orders_17, ↓Z_X3_orders_20, ↓Z_X3_orders_23, ↓Z_X3_orders_24, ↓Z_X3_orders_25, ↓Z_X3_orders_26, ↓Z_X3_orders_29, ↓Z_X3_orders_30, ↓Z_X3_orders_33, ↓Z_X3_orders_34, ↓Z_X3_orders_37, ↓Z_X3_orders_38, ↓Z_X3_orders_39, ↓Z_X3_orders_40, ↓Z_X3_orders_41, ↓Z_X3_orders_44, ↓Z_X3_orders_45, ↓Z_X3_orders_46, ↓Z_X3_orders_49, ↓Z_X3_orders_50, ↓Z_X3_orders_51, ↓Z_X3_orders_52, ↓Z_X3_orders_53, ↓Z_X3_orders_54, ↓Z_X3_orders_55, ↓Z_X3_orders_57, ↓Z_X3_orders_59, ↓Z_X3_orders_61, ↓Z_X3_orders_62, ↓Z_X3_orders_65, ↓Z_X3_orders_66, ↓Z_X3_orders_67, ↓Z_X3_orders_70, ↓Z_X3_orders_71, ↓Z_X3_orders_72, ↓Z_X3_orders_73, ↓Z_X3_orders_74, ↓Z_X3_orders_75, ↓Z_X3_orders_76, ↓Z_X3_orders_77, ↓Z_X3_orders_80, ↓Z_X3_orders_83, ↓Z_X3_orders_84, ↓reduceIte, ↓zrun_stop, ↓zrun_step, ↓zb2_i, ↓zb1_i, ↓zldi_0, ↓zldi_s, ↓zlda_0, ↓zlda_n, ↓zlda_s, ↓zsc_0, ↓zsc_s, ↓zsti_c, ↓zsta_r, ↓zsta_n, ↓zic_0, ↓zic_s, ↓zpush_s, ↓zpush_n, ↓zfew_0, ↓zfew_i, ↓zfew_r, ↓zfew_n, ↓zMg'_67, ↓zMg'_7, ↓zMhp_iS, ↓zMhp_iV, ↓zMl_1, ↓zMl_10, ↓zMl_11, ↓zMl_12, ↓zMl_13, ↓zMl_14, ↓zMl_15, ↓zMl_16, ↓zMl_17, ↓zMl_18, ↓zMl_2, ↓zMl_3, ↓zMl_4, ↓zMl_5, ↓zMl_6, ↓zMl_7, ↓zMl_8, ↓zMl_9, ↓CC_X3_orders_77, ↓CC_X3_orders_487, ↓CC_X3_orders_490, ↓TE_X3_isIn, ↓TE_X3_laysOrders, ↓TE_X3_nextOf, zcat_int, zcat_ref, zcat_null, zret_int, zret_b0, zret_b1, zret_b, Nat.reduceAdd, Nat.reduceSub, Nat.reduceLT, Nat.reduceEqDiff, Nat.reduceBEq, Nat.reduceBNe, true_and, and_true, if_true, if_false, Bool.false_eq_true, Bool.true_eq_false, Bool.or_self, Bool.or_false, Bool.or_true, Bool.false_or, Bool.true_or, zbi_e0, zbi_e1, eq_self, reduceCtorEq, Fin.isValue, zent, List.map_cons, List.map_nil, List.length_cons, List.length_nil, List.replicate, List.cons_append, List.nil_append, List.append_nil, Nat.zero_add, Nat.add_zero, zF_1, zF_2, zA_1, zA_2s, zA_2n, zB_1, zB_2s, zB_2n, not_true_eq_false, not_false_eq_true, Int32.reduceLT, Int32.reduceAdd, Int32.reduceSub, Int32.reduceMul, ne_eq, Int32.reduceToNatClampNeg, zlit_vp, nI_al, nI_la, nI_lm, nI_ml, nI_ltl, nI_llt, nI_eql, nI_lt2, nI_eq2, nI_vp, nI_cl, nI_add, pk_mul, nI_divl, nI_sub2, nI_lsub, nI_ne0l, nI_1, nI_pred, pk_m1, upd_s, upd_n, Nat.lt_irrefl, decide_eq_false_iff_not, decide_eq_true_eq, ite_not, ite_self, Nat.reducePow, Nat.reduceMul, hwf, hcp, hA, hall, hO]
    by_cases c0 : O 0 = 0
    · rw [if_pos c0] at hK
      rw [c0]
      exact hK _ hz
    · rw [if_neg c0] at hK
      exact hK _ hz
  · cases c2 : yin x 10 (9 + s.2 1 98)
    · simp only [c, c2, decide_false, Bool.or_self, Bool.false_eq_true, if_false] at hK
      refine zgo hm hc (fun q => q == 59) 60 ?_
      simp (config := {decide := true, maxSteps := 1000000}) (disch := first | rfl | decide | omega) only [↓Z_X3_orders_0, ↓Z_X3_orders_1, ↓Z_X3_orders_4, ↓Z_X3_orders_5, ↓Z_X3_orders_7, ↓Z_X3_orders_9, ↓Z_X3_orders_10, ↓Z_X3_orders_13, ↓Z_X3_orders_15, ↓Z_X3_orders_16, ↓Z_X3_orders_17, ↓Z_X3_orders_20, ↓Z_X3_orders_23, ↓Z_X3_orders_24, ↓Z_X3_orders_25, ↓Z_X3_orders_26, ↓Z_X3_orders_29, ↓Z_X3_orders_30, ↓Z_X3_orders_33, ↓Z_X3_orders_34, ↓Z_X3_orders_37, ↓Z_X3_orders_38, ↓Z_X3_orders_39, ↓Z_X3_orders_40, ↓Z_X3_orders_41, ↓Z_X3_orders_44, ↓Z_X3_orders_45, ↓Z_X3_orders_46, ↓Z_X3_orders_49, ↓Z_X3_orders_50, ↓Z_X3_orders_51, ↓Z_X3_orders_52, ↓Z_X3_orders_53, ↓Z_X3_orders_54, ↓Z_X3_orders_55, ↓Z_X3_orders_57, ↓Z_X3_orders_59, ↓Z_X3_orders_61, ↓Z_X3_orders_62, ↓Z_X3_orders_65, ↓Z_X3_orders_66, ↓Z_X3_orders_67, ↓Z_X3_orders_70, ↓Z_X3_orders_71, ↓Z_X3_orders_72, ↓Z_X3_orders_73, ↓Z_X3_orders_74, ↓Z_X3_orders_75, ↓Z_X3_orders_76, ↓Z_X3_orders_77, ↓Z_X3_orders_80, ↓Z_X3_orders_83, ↓Z_X3_orders_84, ↓reduceIte, ↓zrun_stop, ↓zrun_step, ↓zb2_i, ↓zb1_i, ↓zldi_0, ↓zldi_s, ↓zlda_0, ↓zlda_n, ↓zlda_s, ↓zsc_0, ↓zsc_s, ↓zsti_c, ↓zsta_r, ↓zsta_n, ↓zic_0, ↓zic_s, ↓zpush_s, ↓zpush_n, ↓zfew_0, ↓zfew_i, ↓zfew_r, ↓zfew_n, ↓zMg'_67, ↓zMg'_7, ↓zMhp_iS, ↓zMhp_iV, ↓zMl_1, ↓zMl_10, ↓zMl_11, ↓zMl_12, ↓zMl_13, ↓zMl_14, ↓zMl_15, ↓zMl_16, ↓zMl_17, ↓zMl_18, ↓zMl_2, ↓zMl_3, ↓zMl_4, ↓zMl_5, ↓zMl_6, ↓zMl_7, ↓zMl_8, ↓zMl_9, ↓CC_X3_orders_77, ↓CC_X3_orders_487, ↓CC_X3_orders_490, ↓TE_X3_isIn, ↓TE_X3_laysOrders, ↓TE_X3_nextOf, zcat_int, zcat_ref, zcat_null, zret_int, zret_b0, zret_b1, zret_b, Nat.reduceAdd, Nat.reduceSub, Nat.reduceLT, Nat.reduceEqDiff, Nat.reduceBEq, Nat.reduceBNe, true_and, and_true, if_true, if_false, Bool.false_eq_true, Bool.true_eq_false, Bool.or_self, Bool.or_false, Bool.or_true, Bool.false_or, Bool.true_or, zbi_e0, zbi_e1, eq_self, reduceCtorEq, Fin.isValue, zent, List.map_cons, List.map_nil, List.length_cons, List.length_nil, List.replicate, List.cons_append, List.nil_append, List.append_nil, Nat.zero_add, Nat.add_zero, zF_1, zF_2, zA_1, zA_2s, zA_2n, zB_1, zB_2s, zB_2n, not_true_eq_false, not_false_eq_true, Int32.reduceLT, Int32.reduceAdd, Int32.reduceSub, Int32.reduceMul, ne_eq, Int32.reduceToNatClampNeg, zlit_vp, nI_al, nI_la, nI_lm, nI_ml, nI_ltl, nI_llt, nI_eql, nI_lt2, nI_eq2, nI_vp, nI_cl, nI_add, pk_mul, nI_divl, nI_sub2, nI_lsub, nI_ne0l, nI_1, nI_pred, pk_m1, upd_s, upd_n, Nat.lt_irrefl, decide_eq_false_iff_not, decide_eq_true_eq, ite_not, ite_self, Nat.reducePow, Nat.reduceMul, c, c2]
      exact hK _ zes.rf
    · have e9 : 9 + s.2 1 98 = nI (9 + N) := by rw [eN, nI_la]
      rw [e9] at c2
      simp only [c, c2, e9, Bool.or_true, if_true, if_false] at hK
      by_cases c0 : O 0 = 0
      · rw [if_pos c0] at hK
        refine zgo hm hc (fun q => q == 59) 60 ?_
        simp (config := {decide := true, maxSteps := 1000000}) (disch := first | rfl | decide | omega) only [↓Z_X3_orders_0, ↓Z_X3_orders_1, ↓Z_X3_orders_4, ↓Z_X3_orders_5, ↓Z_X3_orders_7, ↓Z_X3_orders_9, ↓Z_X3_orders_10, ↓Z_X3_orders_13, ↓Z_X3_orders_15, ↓Z_X3_orders_16, ↓Z_X3_orders_17, ↓Z_X3_orders_20, ↓Z_X3_orders_23, ↓Z_X3_orders_24, ↓Z_X3_orders_25, ↓Z_X3_orders_26, ↓Z_X3_orders_29, ↓Z_X3_orders_30, ↓Z_X3_orders_33, ↓Z_X3_orders_34, ↓Z_X3_orders_37, ↓Z_X3_orders_38, ↓Z_X3_orders_39, ↓Z_X3_orders_40, ↓Z_X3_orders_41, ↓Z_X3_orders_44, ↓Z_X3_orders_45, ↓Z_X3_orders_46, ↓Z_X3_orders_49, ↓Z_X3_orders_50, ↓Z_X3_orders_51, ↓Z_X3_orders_52, ↓Z_X3_orders_53, ↓Z_X3_orders_54, ↓Z_X3_orders_55, ↓Z_X3_orders_57, ↓Z_X3_orders_59, ↓Z_X3_orders_61, ↓Z_X3_orders_62, ↓Z_X3_orders_65, ↓Z_X3_orders_66, ↓Z_X3_orders_67, ↓Z_X3_orders_70, ↓Z_X3_orders_71, ↓Z_X3_orders_72, ↓Z_X3_orders_73, ↓Z_X3_orders_74, ↓Z_X3_orders_75, ↓Z_X3_orders_76, ↓Z_X3_orders_77, ↓Z_X3_orders_80, ↓Z_X3_orders_83, ↓Z_X3_orders_84, ↓reduceIte, ↓zrun_stop, ↓zrun_step, ↓zb2_i, ↓zb1_i, ↓zldi_0, ↓zldi_s, ↓zlda_0, ↓zlda_n, ↓zlda_s, ↓zsc_0, ↓zsc_s, ↓zsti_c, ↓zsta_r, ↓zsta_n, ↓zic_0, ↓zic_s, ↓zpush_s, ↓zpush_n, ↓zfew_0, ↓zfew_i, ↓zfew_r, ↓zfew_n, ↓zMg'_67, ↓zMg'_7, ↓zMhp_iS, ↓zMhp_iV, ↓zMl_1, ↓zMl_10, ↓zMl_11, ↓zMl_12, ↓zMl_13, ↓zMl_14, ↓zMl_15, ↓zMl_16, ↓zMl_17, ↓zMl_18, ↓zMl_2, ↓zMl_3, ↓zMl_4, ↓zMl_5, ↓zMl_6, ↓zMl_7, ↓zMl_8, ↓zMl_9, ↓CC_X3_orders_77, ↓CC_X3_orders_487, ↓CC_X3_orders_490, ↓TE_X3_isIn, ↓TE_X3_laysOrders, ↓TE_X3_nextOf, zcat_int, zcat_ref, zcat_null, zret_int, zret_b0, zret_b1, zret_b, Nat.reduceAdd, Nat.reduceSub, Nat.reduceLT, Nat.reduceEqDiff, Nat.reduceBEq, Nat.reduceBNe, true_and, and_true, if_true, if_false, Bool.false_eq_true, Bool.true_eq_false, Bool.or_self, Bool.or_false, Bool.or_true, Bool.false_or, Bool.true_or, zbi_e0, zbi_e1, eq_self, reduceCtorEq, Fin.isValue, zent, List.map_cons, List.map_nil, List.length_cons, List.length_nil, List.replicate, List.cons_append, List.nil_append, List.append_nil, Nat.zero_add, Nat.add_zero, zF_1, zF_2, zA_1, zA_2s, zA_2n, zB_1, zB_2s, zB_2n, not_true_eq_false, not_false_eq_true, Int32.reduceLT, Int32.reduceAdd, Int32.reduceSub, Int32.reduceMul, ne_eq, Int32.reduceToNatClampNeg, zlit_vp, nI_al, nI_la, nI_lm, nI_ml, nI_ltl, nI_llt, nI_eql, nI_lt2, nI_eq2, nI_vp, nI_cl, nI_add, pk_mul, nI_divl, nI_sub2, nI_lsub, nI_ne0l, nI_1, nI_pred, pk_m1, upd_s, upd_n, Nat.lt_irrefl, decide_eq_false_iff_not, decide_eq_true_eq, ite_not, ite_self, Nat.reducePow, Nat.reduceMul, c, c2, e9, hwf, hcp, hA, hall, hO, c0]
        exact hK _ hz
      · rw [if_neg c0] at hK
        have hok := hok c0
        by_cases hN0 : N = 0
        · exfalso
          unfold yin at c2
          subst hN0
          have e1 : (10 : Int32).toInt = 10 := rfl
          have e2 : (nI (9 + 0)).toInt = 9 := by decide
          simp only [Bool.and_eq_true, Bool.not_eq_true', decide_eq_false_iff_not, Int32.lt_iff_toInt_lt, e1, e2] at c2
          omega
        · obtain ⟨X, hX1, hX2, rfl⟩ := (yin_ab (a := 10) (b := 9 + N) rfl rfl (by omega) (by omega)).mp c2
          rw [nI_clamp (by omega)] at hK
          have loop : ∀ n k : Nat, k + n = X - 9 → S 59 [some (.ref b), some (.int (nI X)), some (.int (nI (yline2 A O k).1)), some (.int (yline2 A O k).2), some (.int (nI (10 + k)))] [] (zB (zB s 17 A) 18 O) := by
            intro n
            induction n with
            | zero =>
              intro k hk
              obtain rfl : k = X - 9 := by omega
              generalize yline2 A O (X - 9) = r at hK ⊢
              refine zgo hm hc (fun q => q == 59) 60 ?_
              simp (config := {decide := true, maxSteps := 1000000}) (disch := first | rfl | decide | omega) only [↓Z_X3_orders_0, ↓Z_X3_orders_1, ↓Z_X3_orders_4, ↓Z_X3_orders_5, ↓Z_X3_orders_7, ↓Z_X3_orders_9, ↓Z_X3_orders_10, ↓Z_X3_orders_13, ↓Z_X3_orders_15, ↓Z_X3_orders_16, ↓Z_X3_orders_17, ↓Z_X3_orders_20, ↓Z_X3_orders_23, ↓Z_X3_orders_24, ↓Z_X3_orders_25, ↓Z_X3_orders_26, ↓Z_X3_orders_29, ↓Z_X3_orders_30, ↓Z_X3_orders_33, ↓Z_X3_orders_34, ↓Z_X3_orders_37, ↓Z_X3_orders_38, ↓Z_X3_orders_39, ↓Z_X3_orders_40, ↓Z_X3_orders_41, ↓Z_X3_orders_44, ↓Z_X3_orders_45, ↓Z_X3_orders_46, ↓Z_X3_orders_49, ↓Z_X3_orders_50, ↓Z_X3_orders_51, ↓Z_X3_orders_52, ↓Z_X3_orders_53, ↓Z_X3_orders_54, ↓Z_X3_orders_55, ↓Z_X3_orders_57, ↓Z_X3_orders_59, ↓Z_X3_orders_61, ↓Z_X3_orders_62, ↓Z_X3_orders_65, ↓Z_X3_orders_66, ↓Z_X3_orders_67, ↓Z_X3_orders_70, ↓Z_X3_orders_71, ↓Z_X3_orders_72, ↓Z_X3_orders_73, ↓Z_X3_orders_74, ↓Z_X3_orders_75, ↓Z_X3_orders_76, ↓Z_X3_orders_77, ↓Z_X3_orders_80, ↓Z_X3_orders_83, ↓Z_X3_orders_84, ↓reduceIte, ↓zrun_stop, ↓zrun_step, ↓zb2_i, ↓zb1_i, ↓zldi_0, ↓zldi_s, ↓zlda_0, ↓zlda_n, ↓zlda_s, ↓zsc_0, ↓zsc_s, ↓zsti_c, ↓zsta_r, ↓zsta_n, ↓zic_0, ↓zic_s, ↓zpush_s, ↓zpush_n, ↓zfew_0, ↓zfew_i, ↓zfew_r, ↓zfew_n, ↓zMg'_67, ↓zMg'_7, ↓zMhp_iS, ↓zMhp_iV, ↓zMl_1, ↓zMl_10, ↓zMl_11, ↓zMl_12, ↓zMl_13, ↓zMl_14, ↓zMl_15, ↓zMl_16, ↓zMl_17, ↓zMl_18, ↓zMl_2, ↓zMl_3, ↓zMl_4, ↓zMl_5, ↓zMl_6, ↓zMl_7, ↓zMl_8, ↓zMl_9, ↓CC_X3_orders_77, ↓CC_X3_orders_487, ↓CC_X3_orders_490, ↓TE_X3_isIn, ↓TE_X3_laysOrders, ↓TE_X3_nextOf, zcat_int, zcat_ref, zcat_null, zret_int, zret_b0, zret_b1, zret_b, Nat.reduceAdd, Nat.reduceSub, Nat.reduceLT, Nat.reduceEqDiff, Nat.reduceBEq, Nat.reduceBNe, true_and, and_true, if_true, if_false, Bool.false_eq_true, Bool.true_eq_false, Bool.or_self, Bool.or_false, Bool.or_true, Bool.false_or, Bool.true_or, zbi_e0, zbi_e1, eq_self, reduceCtorEq, Fin.isValue, zent, List.map_cons, List.map_nil, List.length_cons, List.length_nil, List.replicate, List.cons_append, List.nil_append, List.append_nil, Nat.zero_add, Nat.add_zero, zF_1, zF_2, zA_1, zA_2s, zA_2n, zB_1, zB_2s, zB_2n, not_true_eq_false, not_false_eq_true, Int32.reduceLT, Int32.reduceAdd, Int32.reduceSub, Int32.reduceMul, ne_eq, Int32.reduceToNatClampNeg, zlit_vp, nI_al, nI_la, nI_lm, nI_ml, nI_ltl, nI_llt, nI_eql, nI_lt2, nI_eq2, nI_vp, nI_cl, nI_add, pk_mul, nI_divl, nI_sub2, nI_lsub, nI_ne0l, nI_1, nI_pred, pk_m1, upd_s, upd_n, Nat.lt_irrefl, decide_eq_false_iff_not, decide_eq_true_eq, ite_not, ite_self, Nat.reducePow, Nat.reduceMul, show X < 10 + (X - 9) by omega]
              exact hK _ hz
            | succ n ih =>
              intro k hk
              have ih := ih (k + 1) (by omega)
              rw [yline2] at ih
              dsimp only at ih
              obtain ⟨h1, h2, h3⟩ := hok k (by omega)
              generalize (yline2 A O k).1 = z at h1 h2 h3 ih ⊢
              generalize (yline2 A O k).2 = r at ih ⊢
              have hne : z ≠ 2 ^ N - 1 := by
                intro e
                rw [e, hyo] at h3
                omega
              have hx := hnx z h1 h2 hne
              have hpi := ypow (show ynext A O z < 9 by omega)
              refine zgo hm hc (fun q => q == 59) 60 ?_
              simp (config := {decide := true, maxSteps := 1000000}) (disch := first | rfl | decide | omega) only [↓Z_X3_orders_0, ↓Z_X3_orders_1, ↓Z_X3_orders_4, ↓Z_X3_orders_5, ↓Z_X3_orders_7, ↓Z_X3_orders_9, ↓Z_X3_orders_10, ↓Z_X3_orders_13, ↓Z_X3_orders_15, ↓Z_X3_orders_16, ↓Z_X3_orders_17, ↓Z_X3_orders_20, ↓Z_X3_orders_23, ↓Z_X3_orders_24, ↓Z_X3_orders_25, ↓Z_X3_orders_26, ↓Z_X3_orders_29, ↓Z_X3_orders_30, ↓Z_X3_orders_33, ↓Z_X3_orders_34, ↓Z_X3_orders_37, ↓Z_X3_orders_38, ↓Z_X3_orders_39, ↓Z_X3_orders_40, ↓Z_X3_orders_41, ↓Z_X3_orders_44, ↓Z_X3_orders_45, ↓Z_X3_orders_46, ↓Z_X3_orders_49, ↓Z_X3_orders_50, ↓Z_X3_orders_51, ↓Z_X3_orders_52, ↓Z_X3_orders_53, ↓Z_X3_orders_54, ↓Z_X3_orders_55, ↓Z_X3_orders_57, ↓Z_X3_orders_59, ↓Z_X3_orders_61, ↓Z_X3_orders_62, ↓Z_X3_orders_65, ↓Z_X3_orders_66, ↓Z_X3_orders_67, ↓Z_X3_orders_70, ↓Z_X3_orders_71, ↓Z_X3_orders_72, ↓Z_X3_orders_73, ↓Z_X3_orders_74, ↓Z_X3_orders_75, ↓Z_X3_orders_76, ↓Z_X3_orders_77, ↓Z_X3_orders_80, ↓Z_X3_orders_83, ↓Z_X3_orders_84, ↓reduceIte, ↓zrun_stop, ↓zrun_step, ↓zb2_i, ↓zb1_i, ↓zldi_0, ↓zldi_s, ↓zlda_0, ↓zlda_n, ↓zlda_s, ↓zsc_0, ↓zsc_s, ↓zsti_c, ↓zsta_r, ↓zsta_n, ↓zic_0, ↓zic_s, ↓zpush_s, ↓zpush_n, ↓zfew_0, ↓zfew_i, ↓zfew_r, ↓zfew_n, ↓zMg'_67, ↓zMg'_7, ↓zMhp_iS, ↓zMhp_iV, ↓zMl_1, ↓zMl_10, ↓zMl_11, ↓zMl_12, ↓zMl_13, ↓zMl_14, ↓zMl_15, ↓zMl_16, ↓zMl_17, ↓zMl_18, ↓zMl_2, ↓zMl_3, ↓zMl_4, ↓zMl_5, ↓zMl_6, ↓zMl_7, ↓zMl_8, ↓zMl_9, ↓CC_X3_orders_77, ↓CC_X3_orders_487, ↓CC_X3_orders_490, ↓TE_X3_isIn, ↓TE_X3_laysOrders, ↓TE_X3_nextOf, zcat_int, zcat_ref, zcat_null, zret_int, zret_b0, zret_b1, zret_b, Nat.reduceAdd, Nat.reduceSub, Nat.reduceLT, Nat.reduceEqDiff, Nat.reduceBEq, Nat.reduceBNe, true_and, and_true, if_true, if_false, Bool.false_eq_true, Bool.true_eq_false, Bool.or_self, Bool.or_false, Bool.or_true, Bool.false_or, Bool.true_or, zbi_e0, zbi_e1, eq_self, reduceCtorEq, Fin.isValue, zent, List.map_cons, List.map_nil, List.length_cons, List.length_nil, List.replicate, List.cons_append, List.nil_append, List.append_nil, Nat.zero_add, Nat.add_zero, zF_1, zF_2, zA_1, zA_2s, zA_2n, zB_1, zB_2s, zB_2n, not_true_eq_false, not_false_eq_true, Int32.reduceLT, Int32.reduceAdd, Int32.reduceSub, Int32.reduceMul, ne_eq, Int32.reduceToNatClampNeg, zlit_vp, nI_al, nI_la, nI_lm, nI_ml, nI_ltl, nI_llt, nI_eql, nI_lt2, nI_eq2, nI_vp, nI_cl, nI_add, pk_mul, nI_divl, nI_sub2, nI_lsub, nI_ne0l, nI_1, nI_pred, pk_m1, upd_s, upd_n, Nat.lt_irrefl, decide_eq_false_iff_not, decide_eq_true_eq, ite_not, ite_self, Nat.reducePow, Nat.reduceMul, show ¬ X < 10 + k by omega, hpi, nI_or]
              refine ⟨⟨z, rfl, by omega, by simpa using (show ynext A O z < 8 by omega)⟩, ?_⟩
              simpa [nI_or, hpi, Nat.add_assoc] using ih
          refine zgo hm hc (fun q => q == 59) 60 ?_
          simp (config := {decide := true, maxSteps := 1000000}) (disch := first | rfl | decide | omega) only [↓Z_X3_orders_0, ↓Z_X3_orders_1, ↓Z_X3_orders_4, ↓Z_X3_orders_5, ↓Z_X3_orders_7, ↓Z_X3_orders_9, ↓Z_X3_orders_10, ↓Z_X3_orders_13, ↓Z_X3_orders_15, ↓Z_X3_orders_16, ↓Z_X3_orders_17, ↓Z_X3_orders_20, ↓Z_X3_orders_23, ↓Z_X3_orders_24, ↓Z_X3_orders_25, ↓Z_X3_orders_26, ↓Z_X3_orders_29, ↓Z_X3_orders_30, ↓Z_X3_orders_33, ↓Z_X3_orders_34, ↓Z_X3_orders_37, ↓Z_X3_orders_38, ↓Z_X3_orders_39, ↓Z_X3_orders_40, ↓Z_X3_orders_41, ↓Z_X3_orders_44, ↓Z_X3_orders_45, ↓Z_X3_orders_46, ↓Z_X3_orders_49, ↓Z_X3_orders_50, ↓Z_X3_orders_51, ↓Z_X3_orders_52, ↓Z_X3_orders_53, ↓Z_X3_orders_54, ↓Z_X3_orders_55, ↓Z_X3_orders_57, ↓Z_X3_orders_59, ↓Z_X3_orders_61, ↓Z_X3_orders_62, ↓Z_X3_orders_65, ↓Z_X3_orders_66, ↓Z_X3_orders_67, ↓Z_X3_orders_70, ↓Z_X3_orders_71, ↓Z_X3_orders_72, ↓Z_X3_orders_73, ↓Z_X3_orders_74, ↓Z_X3_orders_75, ↓Z_X3_orders_76, ↓Z_X3_orders_77, ↓Z_X3_orders_80, ↓Z_X3_orders_83, ↓Z_X3_orders_84, ↓reduceIte, ↓zrun_stop, ↓zrun_step, ↓zb2_i, ↓zb1_i, ↓zldi_0, ↓zldi_s, ↓zlda_0, ↓zlda_n, ↓zlda_s, ↓zsc_0, ↓zsc_s, ↓zsti_c, ↓zsta_r, ↓zsta_n, ↓zic_0, ↓zic_s, ↓zpush_s, ↓zpush_n, ↓zfew_0, ↓zfew_i, ↓zfew_r, ↓zfew_n, ↓zMg'_67, ↓zMg'_7, ↓zMhp_iS, ↓zMhp_iV, ↓zMl_1, ↓zMl_10, ↓zMl_11, ↓zMl_12, ↓zMl_13, ↓zMl_14, ↓zMl_15, ↓zMl_16, ↓zMl_17, ↓zMl_18, ↓zMl_2, ↓zMl_3, ↓zMl_4, ↓zMl_5, ↓zMl_6, ↓zMl_7, ↓zMl_8, ↓zMl_9, ↓CC_X3_orders_77, ↓CC_X3_orders_487, ↓CC_X3_orders_490, ↓TE_X3_isIn, ↓TE_X3_laysOrders, ↓TE_X3_nextOf, zcat_int, zcat_ref, zcat_null, zret_int, zret_b0, zret_b1, zret_b, Nat.reduceAdd, Nat.reduceSub, Nat.reduceLT, Nat.reduceEqDiff, Nat.reduceBEq, Nat.reduceBNe, true_and, and_true, if_true, if_false, Bool.false_eq_true, Bool.true_eq_false, Bool.or_self, Bool.or_false, Bool.or_true, Bool.false_or, Bool.true_or, zbi_e0, zbi_e1, eq_self, reduceCtorEq, Fin.isValue, zent, List.map_cons, List.map_nil, List.length_cons, List.length_nil, List.replicate, List.cons_append, List.nil_append, List.append_nil, Nat.zero_add, Nat.add_zero, zF_1, zF_2, zA_1, zA_2s, zA_2n, zB_1, zB_2s, zB_2n, not_true_eq_false, not_false_eq_true, Int32.reduceLT, Int32.reduceAdd, Int32.reduceSub, Int32.reduceMul, ne_eq, Int32.reduceToNatClampNeg, zlit_vp, nI_al, nI_la, nI_lm, nI_ml, nI_ltl, nI_llt, nI_eql, nI_lt2, nI_eq2, nI_vp, nI_cl, nI_add, pk_mul, nI_divl, nI_sub2, nI_lsub, nI_ne0l, nI_1, nI_pred, pk_m1, upd_s, upd_n, Nat.lt_irrefl, decide_eq_false_iff_not, decide_eq_true_eq, ite_not, ite_self, Nat.reducePow, Nat.reduceMul, c, c2, e9, hwf, hcp, hA, hall, hO, c0]
          exact loop (X - 9) 0 (by omega)
theorem MS_X3_orders {l : Launch} {E : zEnv} {b0 : Nat} : zMS l E b0 2 yX3_orders (ws_ yX3_orders cX3_orders 5 (some .int)) 0 0 (zlV E T_X3_orders) := by
  refine zM_MS (Γ := G_X3_orders) rfl (zΓok_cons (IM_X3_isIn (by decide)) (zΓok_cons (IM_X3_laysOrders (by decide)) (zΓok_cons (IM_X3_nextOf (by decide)) zΓok_nil))) (fun as s K h => ?_) ?_
  · have h1 := zr1_a as s K h
    exact ⟨by rw [h1.1]; decide, h1.2⟩
  · intro b as s K hT S hm hc
    have h0 := hT
    unfold T_X3_orders zr1 at h0
    split at h0
    · exact B_X3_orders b _ s K hT S hm hc
    · exact h0.elim
