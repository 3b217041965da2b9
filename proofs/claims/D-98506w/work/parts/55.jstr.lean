/-! the JDK: length, charAt of a String -/
section ZJR
variable {E : zEnv} {i : Nat} {fl st9 : List (Nat × Nat)} {Γ : zΓ zσ} {r st : List Value} {s : zσ} {k : List Value → zσ → Prop} {x a j0 : Nat} {j : Int32}
theorem zJhp_g0 (h : zlk fl x = some 0) : zJhp E i fl st9 Γ (.getfield x) (.ref a :: r) s k = (a = E.aK i ∧ k (.ref (E.aV i) :: r) s) := by
  unfold zJhp
  dsimp only
  rw [h]
  rfl
theorem zJhp_g1 (h : zlk fl x = some 1) : zJhp E i fl st9 Γ (.getfield x) (.ref a :: r) s k = (a = E.aK i ∧ k (.int 0 :: r) s) := by
  unfold zJhp
  dsimp only
  rw [h]
  rfl
theorem zJhp_s38 : zJhp E i fl [(38, 9), (1053, 10)] Γ (.getstatic 38) st s k = k (zstv E 9 :: st) s := rfl
theorem zJhp_s1053 : zJhp E i fl [(38, 9), (1053, 10)] Γ (.getstatic 1053) st s k = k (zstv E 10 :: st) s := rfl
theorem zJhp_al : zJhp E i fl st9 Γ .arraylength (.ref a :: r) s k = (a = E.aV i ∧ k (.int (nI (zslenI i)) :: r) s) := rfl
theorem zJhp_bl : zJhp E i fl st9 Γ .baload (.int j :: .ref a :: r) s k = (a = E.aV i ∧ vp_in j (zslenI i) ∧ k (.int (zsch i j.toNatClampNeg) :: r) s) := rfl
theorem zJhp_iS : zJhp E i fl st9 Γ (.invokestatic x) st s k = zcallS Γ x st s k := rfl
theorem zJhp_iV : zJhp E i fl st9 Γ (.invokevirtual x) st s k = zcallR Γ x st s k := rfl
end ZJR
theorem zcR_n {σ : Type} {Γ : zΓ σ} {i n : Nat} {T : zT σ} {st r : List Value} {s : σ} {k : List Value → σ → Prop} {as : List Value} (h : zlk Γ i = some (true, n, T)) (hp : zpop (n + 1) [] st = some (as, r)) : zcallR Γ i st s k = (zfew r 8 = true ∧ T as s (fun v s' => k (v.toList ++ r) s')) := by
  unfold zcallR
  rw [h]
  dsimp only
  rw [hp]
  simp
theorem zJt_0 {own : String} : zJtabs own [] [] := ⟨fun q h => by (cases h), fun q h => by (cases h)⟩
theorem zJt_J2 : zJtabs RJ2 [(9, 0), (15, 1)] [(38, 9), (1053, 10)] := by
  refine ⟨fun q h => ?_, fun q h => ?_⟩
  · simp only [List.mem_cons, List.not_mem_nil, or_false] at h
    rcases h with rfl | rfl
    · exact ⟨_, _, q2034, Or.inl ⟨rfl, rfl, rfl⟩⟩
    · exact ⟨_, _, q2035, Or.inr ⟨by decide, rfl, rfl⟩⟩
  · simp only [List.mem_cons, List.not_mem_nil, or_false] at h
    rcases h with rfl | rfl
    · exact ⟨_, _, _, q579, by decide⟩
    · exact ⟨_, _, _, q595, by decide⟩
theorem zstv_9 {E : zEnv} : zstv E 9 = .int 1 := rfl
theorem zstv_c {E : zEnv} : (zstv E 10).category = 1 := by
  show (va_rf (E.tv 10)).category = 1
  cases E.tv 10 <;> rfl
theorem zslen_lt : ∀ i, i < 53 → zslenI i ≤ 10 := by decide
theorem zsch_lt : ∀ i, i < 53 → ∀ j, j < zslenI i → zsch i j &&& 255 = zsch i j ∧ ((zsch i j).toUInt32 % 65536).toInt32 = zsch i j ∧ zretI (some .char) (zsch i j) := by
  have h : ∀ i, i < 53 → ∀ j, j < zslenI i → zsch i j &&& 255 = zsch i j ∧ ((zsch i j).toUInt32 % 65536).toInt32 = zsch i j ∧ narrow .char (.int (zsch i j)) = .int (zsch i j) := by decide +kernel
  exact h
def T_J2_coder (E : zEnv) (i : Nat) : zT zσ := fun as s K => match as with
  | [.ref a] => i < zN ∧ (a = E.aK i) ∧ K (some (.int 0)) s
  | _ => False
theorem TE_J2_coder {E : zEnv} {i : Nat} {a : Nat} {s : zσ} {K : Option Value → zσ → Prop} : T_J2_coder E i [.ref a] s K = (i < zN ∧ (a = E.aK i) ∧ K (some (.int 0)) s) := rfl
theorem Tm_J2_coder {E : zEnv} {i : Nat} : zTm (T_J2_coder E i) := by
  intro as s K K' h q
  unfold T_J2_coder at *
  split at q <;> first | exact ⟨q.1, q.2.1, h _ _ q.2.2⟩ | exact q.elim
theorem Ta_J2_coder {E : zEnv} {i : Nat} : zTa (T_J2_coder E i) 1 := by
  intro as s K q
  unfold T_J2_coder at q
  split at q
  · refine ⟨rfl, fun v hv => ?_⟩
    simp only [List.mem_cons, List.not_mem_nil, or_false] at hv
    rcases hv with rfl <;> first | rfl | exact q.2.1.1
  · exact q.elim
theorem Tl_J2_coder {E : zEnv} {i : Nat} {as : List Value} {s : zσ} {K : Option Value → zσ → Prop} (q : T_J2_coder E i as s K) : i < zN := by
  unfold T_J2_coder at q
  split at q <;> first | exact q.1 | exact q.elim
abbrev G_J2_coder (E : zEnv) (i : Nat) : zΓ zσ := []
theorem Z_J2_coder_0 {σ : Type} {ret : Option FieldType} {hp : Instr → List Value → σ → (List Value → σ → Prop) → Prop} {K : Option Value → σ → Prop} {S : Nat → zL → List Value → σ → Prop} {L : zL} {s : σ} {st : List Value} : zone ret hp K cJ2_coder S 0 L st s = (hp (.getstatic 38) st s (fun st' s' => S 3 L st' s')) := zone_of dJ2_coder_0 rfl
theorem Z_J2_coder_3 {σ : Type} {ret : Option FieldType} {hp : Instr → List Value → σ → (List Value → σ → Prop) → Prop} {K : Option Value → σ → Prop} {S : Nat → zL → List Value → σ → Prop} {L : zL} {s : σ} {st : List Value} : zone ret hp K cJ2_coder S 3 L st s = (zb1 st fun x r => if x = 0 then S 13 L r s else S 6 L r s) := zone_if_eq dJ2_coder_3 (by decide)
theorem Z_J2_coder_6 {σ : Type} {ret : Option FieldType} {hp : Instr → List Value → σ → (List Value → σ → Prop) → Prop} {K : Option Value → σ → Prop} {S : Nat → zL → List Value → σ → Prop} {L : zL} {s : σ} {st : List Value} : zone ret hp K cJ2_coder S 6 L st s = (zlda L 0 fun v => S 7 L (v :: st) s) := zone_of dJ2_coder_6 rfl
theorem Z_J2_coder_7 {σ : Type} {ret : Option FieldType} {hp : Instr → List Value → σ → (List Value → σ → Prop) → Prop} {K : Option Value → σ → Prop} {S : Nat → zL → List Value → σ → Prop} {L : zL} {s : σ} {st : List Value} : zone ret hp K cJ2_coder S 7 L st s = (hp (.getfield 15) st s (fun st' s' => S 10 L st' s')) := zone_of dJ2_coder_7 rfl
theorem Z_J2_coder_10 {σ : Type} {ret : Option FieldType} {hp : Instr → List Value → σ → (List Value → σ → Prop) → Prop} {K : Option Value → σ → Prop} {S : Nat → zL → List Value → σ → Prop} {L : zL} {s : σ} {st : List Value} : zone ret hp K cJ2_coder S 10 L st s = (S 14 L st s) := zone_goto dJ2_coder_10 (by decide)
theorem Z_J2_coder_13 {σ : Type} {ret : Option FieldType} {hp : Instr → List Value → σ → (List Value → σ → Prop) → Prop} {K : Option Value → σ → Prop} {S : Nat → zL → List Value → σ → Prop} {L : zL} {s : σ} {st : List Value} : zone ret hp K cJ2_coder S 13 L st s = (S 14 L (.int 1 :: st) s) := zone_iconst dJ2_coder_13 (by decide)
theorem Z_J2_coder_14 {σ : Type} {ret : Option FieldType} {hp : Instr → List Value → σ → (List Value → σ → Prop) → Prop} {K : Option Value → σ → Prop} {S : Nat → zL → List Value → σ → Prop} {L : zL} {s : σ} {v : Int32} : zone ret hp K cJ2_coder S 14 L [.int v] s = (zretI ret v ∧ K (some (.int v)) s) := zone_of dJ2_coder_14 rfl
set_option maxRecDepth 100000 in
set_option maxHeartbeats 4000000 in
theorem B_J2_coder {E : zEnv} (i : Nat) (a : Nat) (s : zσ) (K : Option Value → zσ → Prop) (hT : T_J2_coder E i [.ref a] s K) (S : Nat → zL → List Value → zσ → Prop) (hm : zMono (zJhp E i [(9, 0), (15, 1)] [(38, 9), (1053, 10)] (G_J2_coder E i))) (hc : zClosed (some .byte) (zJhp E i [(9, 0), (15, 1)] [(38, 9), (1053, 10)] (G_J2_coder E i)) K cJ2_coder S) : S 0 [some (.ref a)] [] s := by
  obtain ⟨hi, rfl, hK⟩ := hT
  refine zgo hm hc (fun _ => false) 20 ?_
  simp (config := {decide := true, maxSteps := 1000000}) (disch := first | rfl | decide | omega) only [↓Z_J2_coder_0, ↓Z_J2_coder_3, ↓Z_J2_coder_6, ↓Z_J2_coder_7, ↓Z_J2_coder_10, ↓Z_J2_coder_13, ↓Z_J2_coder_14, ↓reduceIte, ↓zrun_stop, ↓zrun_step, ↓zb2_i, ↓zb1_i, ↓zldi_0, ↓zldi_s, ↓zlda_0, ↓zlda_n, ↓zlda_s, ↓zsc_0, ↓zsc_s, ↓zsti_c, ↓zsta_r, ↓zsta_n, ↓zic_0, ↓zic_s, ↓zpush_s, ↓zpush_n, ↓zfew_0, ↓zfew_i, ↓zfew_r, ↓zfew_n, ↓zJhp_g0, ↓zJhp_g1, ↓zJhp_s38, ↓zJhp_s1053, ↓zJhp_al, ↓zJhp_bl, ↓zJhp_iS, ↓zJhp_iV, zcat_int, zcat_ref, zcat_null, zret_int, zret_b0, zret_b1, zret_b, Nat.reduceAdd, Nat.reduceSub, Nat.reduceLT, Nat.reduceEqDiff, Nat.reduceBEq, Nat.reduceBNe, true_and, and_true, if_true, if_false, Bool.false_eq_true, Bool.true_eq_false, Bool.or_self, Bool.or_false, Bool.or_true, Bool.false_or, Bool.true_or, zbi_e0, zbi_e1, eq_self, reduceCtorEq, Fin.isValue, zent, List.map_cons, List.map_nil, List.length_cons, List.length_nil, List.replicate, List.cons_append, List.nil_append, List.append_nil, Nat.zero_add, Nat.add_zero, zF_1, zF_2, zA_1, zA_2s, zA_2n, zB_1, zB_2s, zB_2n, not_true_eq_false, not_false_eq_true, Int32.reduceLT, Int32.reduceAdd, Int32.reduceSub, Int32.reduceMul, ne_eq, Int32.reduceToNatClampNeg, zlit_vp, nI_al, nI_la, nI_lm, nI_ml, nI_ltl, nI_llt, nI_eql, nI_lt2, nI_eq2, nI_vp, nI_cl, nI_add, pk_mul, nI_divl, nI_sub2, nI_lsub, nI_ne0l, nI_1, nI_pred, pk_m1, upd_s, upd_n, Nat.lt_irrefl, decide_eq_false_iff_not, decide_eq_true_eq, ite_not, ite_self, Nat.reducePow, Nat.reduceMul, zstv_9]
  exact ⟨rfl, hK⟩
theorem MS_J2_coder {l : Launch} {E : zEnv} {b0 : Nat} : zMS l E b0 0 yJ2_coder (ws_ yJ2_coder cJ2_coder 1 (some .byte)) 0 0 (fun as s K => ∃ i, i < zN ∧ T_J2_coder E i as s K) := by
  refine zJ_MS (T := T_J2_coder E) (Γ := fun i => G_J2_coder E i) (own := RJ2) (na := 1) (fl := [(9, 0), (15, 1)]) (st9 := [(38, 9), (1053, 10)]) rfl (by decide) (fun i => zJok_nil) zJt_J2 (fun i => Ta_J2_coder) (by decide) ?_
  intro i hi as s K hT S hm hc
  have h0 := hT
  unfold T_J2_coder at h0
  split at h0
  · exact B_J2_coder i _ s K hT S hm hc
  · exact h0.elim
theorem Tr_J2_coder {E : zEnv} {i : Nat} {as : List Value} {s : zσ} {K : Option Value → zσ → Prop} (q : T_J2_coder E i as s K) : ∃ i as', i < zN ∧ as = .ref (E.aK i) :: as' := by
  unfold T_J2_coder at q
  split at q
  · obtain ⟨h1, h2, -⟩ := q
    exact ⟨i, _, h1, by rw [h2]⟩
  · exact q.elim
theorem IJ_J2_coder {l : Launch} {E : zEnv} {b0 d0 i : Nat} (hd : 0 + 1 ≤ d0) : (zTm (T_J2_coder E i)) ∧ ((true : Bool) = true → zInv l E b0 "java/lang/String" d0 (.invokevirtual 335) (0 + 1) none 0 0 (T_J2_coder E i)) ∧ ((true : Bool) = false → zInv l E b0 "java/lang/String" d0 (.invokestatic 335) 0 none 0 0 (T_J2_coder E i)) := ⟨Tm_J2_coder, (fun _ => zInv.K (MS_J2_coder.weak (fun as s K h => ⟨i, Tl_J2_coder h, h⟩)) hd (by decide) (lw_V q575 q576 q577 q163 q578) (by decide +kernel) (fun as s K h => Tr_J2_coder h)), fun h => nomatch h⟩
def T_J2_length (E : zEnv) (i : Nat) : zT zσ := fun as s K => match as with
  | [.ref a] => i < zN ∧ (a = E.aK i) ∧ K (some (.int (nI (zslenI i)))) s
  | _ => False
theorem TE_J2_length {E : zEnv} {i : Nat} {a : Nat} {s : zσ} {K : Option Value → zσ → Prop} : T_J2_length E i [.ref a] s K = (i < zN ∧ (a = E.aK i) ∧ K (some (.int (nI (zslenI i)))) s) := rfl
theorem Tm_J2_length {E : zEnv} {i : Nat} : zTm (T_J2_length E i) := by
  intro as s K K' h q
  unfold T_J2_length at *
  split at q <;> first | exact ⟨q.1, q.2.1, h _ _ q.2.2⟩ | exact q.elim
theorem Ta_J2_length {E : zEnv} {i : Nat} : zTa (T_J2_length E i) 1 := by
  intro as s K q
  unfold T_J2_length at q
  split at q
  · refine ⟨rfl, fun v hv => ?_⟩
    simp only [List.mem_cons, List.not_mem_nil, or_false] at hv
    rcases hv with rfl <;> first | rfl | exact q.2.1.1
  · exact q.elim
theorem Tl_J2_length {E : zEnv} {i : Nat} {as : List Value} {s : zσ} {K : Option Value → zσ → Prop} (q : T_J2_length E i as s K) : i < zN := by
  unfold T_J2_length at q
  split at q <;> first | exact q.1 | exact q.elim
abbrev G_J2_length (E : zEnv) (i : Nat) : zΓ zσ := [(335, true, 0, T_J2_coder E i)]
theorem Z_J2_length_0 {σ : Type} {ret : Option FieldType} {hp : Instr → List Value → σ → (List Value → σ → Prop) → Prop} {K : Option Value → σ → Prop} {S : Nat → zL → List Value → σ → Prop} {L : zL} {s : σ} {st : List Value} : zone ret hp K cJ2_length S 0 L st s = (zlda L 0 fun v => S 1 L (v :: st) s) := zone_of dJ2_length_0 rfl
theorem Z_J2_length_1 {σ : Type} {ret : Option FieldType} {hp : Instr → List Value → σ → (List Value → σ → Prop) → Prop} {K : Option Value → σ → Prop} {S : Nat → zL → List Value → σ → Prop} {L : zL} {s : σ} {st : List Value} : zone ret hp K cJ2_length S 1 L st s = (hp (.getfield 9) st s (fun st' s' => S 4 L st' s')) := zone_of dJ2_length_1 rfl
theorem Z_J2_length_4 {σ : Type} {ret : Option FieldType} {hp : Instr → List Value → σ → (List Value → σ → Prop) → Prop} {K : Option Value → σ → Prop} {S : Nat → zL → List Value → σ → Prop} {L : zL} {s : σ} {st : List Value} : zone ret hp K cJ2_length S 4 L st s = (hp (.arraylength) st s (fun st' s' => S 5 L st' s')) := zone_of dJ2_length_4 rfl
theorem Z_J2_length_5 {σ : Type} {ret : Option FieldType} {hp : Instr → List Value → σ → (List Value → σ → Prop) → Prop} {K : Option Value → σ → Prop} {S : Nat → zL → List Value → σ → Prop} {L : zL} {s : σ} {st : List Value} : zone ret hp K cJ2_length S 5 L st s = (zlda L 0 fun v => S 6 L (v :: st) s) := zone_of dJ2_length_5 rfl
theorem Z_J2_length_6 {σ : Type} {ret : Option FieldType} {hp : Instr → List Value → σ → (List Value → σ → Prop) → Prop} {K : Option Value → σ → Prop} {S : Nat → zL → List Value → σ → Prop} {L : zL} {s : σ} {st : List Value} : zone ret hp K cJ2_length S 6 L st s = (hp (.invokevirtual 335) st s (fun st' s' => S 9 L st' s')) := zone_of dJ2_length_6 rfl
theorem Z_J2_length_9 {σ : Type} {ret : Option FieldType} {hp : Instr → List Value → σ → (List Value → σ → Prop) → Prop} {K : Option Value → σ → Prop} {S : Nat → zL → List Value → σ → Prop} {L : zL} {s : σ} {st : List Value} : zone ret hp K cJ2_length S 9 L st s = (zb2 st fun x y r => S 10 L (.int (x >>> (y &&& 31)) :: r) s) := zone_of dJ2_length_9 rfl
theorem Z_J2_length_10 {σ : Type} {ret : Option FieldType} {hp : Instr → List Value → σ → (List Value → σ → Prop) → Prop} {K : Option Value → σ → Prop} {S : Nat → zL → List Value → σ → Prop} {L : zL} {s : σ} {v : Int32} : zone ret hp K cJ2_length S 10 L [.int v] s = (zretI ret v ∧ K (some (.int v)) s) := zone_of dJ2_length_10 rfl
theorem CC_J2_length_335 {E : zEnv} {i : Nat} {a0 : Value} {r : List Value} {s : zσ} {k : List Value → zσ → Prop} : zcallR (G_J2_length E i) 335 (a0 :: r) s k = (zfew r 8 = true ∧ T_J2_coder E i [a0] s (fun v s' => zpush v r (fun q => k q s'))) := zcR_n rfl rfl
set_option maxRecDepth 100000 in
set_option maxHeartbeats 4000000 in
theorem B_J2_length {E : zEnv} (i : Nat) (a : Nat) (s : zσ) (K : Option Value → zσ → Prop) (hT : T_J2_length E i [.ref a] s K) (S : Nat → zL → List Value → zσ → Prop) (hm : zMono (zJhp E i [(9, 0), (15, 1)] [(38, 9), (1053, 10)] (G_J2_length E i))) (hc : zClosed (some .int) (zJhp E i [(9, 0), (15, 1)] [(38, 9), (1053, 10)] (G_J2_length E i)) K cJ2_length S) : S 0 [some (.ref a)] [] s := by
  obtain ⟨hi, rfl, hK⟩ := hT
  have hl := zslen_lt i hi
  refine zgo hm hc (fun _ => false) 20 ?_
  simp (config := {decide := true, maxSteps := 1000000}) (disch := first | rfl | decide | omega) only [↓Z_J2_length_0, ↓Z_J2_length_1, ↓Z_J2_length_4, ↓Z_J2_length_5, ↓Z_J2_length_6, ↓Z_J2_length_9, ↓Z_J2_length_10, ↓reduceIte, ↓zrun_stop, ↓zrun_step, ↓zb2_i, ↓zb1_i, ↓zldi_0, ↓zldi_s, ↓zlda_0, ↓zlda_n, ↓zlda_s, ↓zsc_0, ↓zsc_s, ↓zsti_c, ↓zsta_r, ↓zsta_n, ↓zic_0, ↓zic_s, ↓zpush_s, ↓zpush_n, ↓zfew_0, ↓zfew_i, ↓zfew_r, ↓zfew_n, ↓zJhp_g0, ↓zJhp_g1, ↓zJhp_s38, ↓zJhp_s1053, ↓zJhp_al, ↓zJhp_bl, ↓zJhp_iS, ↓zJhp_iV, ↓CC_J2_length_335, ↓TE_J2_coder, zcat_int, zcat_ref, zcat_null, zret_int, zret_b0, zret_b1, zret_b, Nat.reduceAdd, Nat.reduceSub, Nat.reduceLT, Nat.reduceEqDiff, Nat.reduceBEq, Nat.reduceBNe, true_and, and_true, if_true, if_false, Bool.false_eq_true, Bool.true_eq_false, Bool.or_self, Bool.or_false, Bool.or_true, Bool.false_or, Bool.true_or, zbi_e0, zbi_e1, eq_self, reduceCtorEq, Fin.isValue, zent, List.map_cons, List.map_nil, List.length_cons, List.length_nil, List.replicate, List.cons_append, List.nil_append, List.append_nil, Nat.zero_add, Nat.add_zero, zF_1, zF_2, zA_1, zA_2s, zA_2n, zB_1, zB_2s, zB_2n, not_true_eq_false, not_false_eq_true, Int32.reduceLT, Int32.reduceAdd, Int32.reduceSub, Int32.reduceMul, ne_eq, Int32.reduceToNatClampNeg, zlit_vp, nI_al, nI_la, nI_lm, nI_ml, nI_ltl, nI_llt, nI_eql, nI_lt2, nI_eq2, nI_vp, nI_cl, nI_add, pk_mul, nI_divl, nI_sub2, nI_lsub, nI_ne0l, nI_1, nI_pred, pk_m1, upd_s, upd_n, Nat.lt_irrefl, decide_eq_false_iff_not, decide_eq_true_eq, ite_not, ite_self, Nat.reducePow, Nat.reduceMul, hi]
  have e : nI (zslenI i) >>> ((0 : Int32) &&& 31) = nI (zslenI i) := by
    have := nI_shr (a := zslenI i) (k := 0) (by omega) (by omega)
    rw [show nI 0 = (0 : Int32) from rfl] at this
    rw [this]; rfl
  first | exact hK | (rw [e]; exact hK)
theorem MS_J2_length {l : Launch} {E : zEnv} {b0 : Nat} : zMS l E b0 1 yJ2_length (ws_ yJ2_length cJ2_length 1 (some .int)) 0 0 (fun as s K => ∃ i, i < zN ∧ T_J2_length E i as s K) := by
  refine zJ_MS (T := T_J2_length E) (Γ := fun i => G_J2_length E i) (own := RJ2) (na := 1) (fl := [(9, 0), (15, 1)]) (st9 := [(38, 9), (1053, 10)]) rfl (by decide) (fun i => zJok_cons (IJ_J2_coder (by decide)) (zJok_nil)) zJt_J2 (fun i => Ta_J2_length) (by decide) ?_
  intro i hi as s K hT S hm hc
  have h0 := hT
  unfold T_J2_length at h0
  split at h0
  · exact B_J2_length i _ s K hT S hm hc
  · exact h0.elim
theorem Tr_J2_length {E : zEnv} {i : Nat} {as : List Value} {s : zσ} {K : Option Value → zσ → Prop} (q : T_J2_length E i as s K) : ∃ i as', i < zN ∧ as = .ref (E.aK i) :: as' := by
  unfold T_J2_length at q
  split at q
  · obtain ⟨h1, h2, -⟩ := q
    exact ⟨i, _, h1, by rw [h2]⟩
  · exact q.elim
theorem IO_X3_J2_length_113 {l : Launch} {E : zEnv} {b0 d0 i : Nat} (hd : 1 + 1 ≤ d0) : (zTm (T_J2_length E i)) ∧ ((true : Bool) = true → zInv l E b0 "ToolUnionModel" d0 (.invokevirtual 113) (0 + 1) none 0 0 (T_J2_length E i)) ∧ ((true : Bool) = false → zInv l E b0 "ToolUnionModel" d0 (.invokestatic 113) 0 none 0 0 (T_J2_length E i)) := ⟨Tm_J2_length, (fun _ => zInv.K (MS_J2_length.weak (fun as s K h => ⟨i, Tl_J2_length h, h⟩)) hd (by decide) (lw_V q1542 q572 q573 q163 q574) (by decide +kernel) (fun as s K h => Tr_J2_length h)), fun h => nomatch h⟩
theorem IO_X0_J2_length_241 {l : Launch} {E : zEnv} {b0 d0 i : Nat} (hd : 1 + 1 ≤ d0) : (zTm (T_J2_length E i)) ∧ ((true : Bool) = true → zInv l E b0 "ToolUnion" d0 (.invokevirtual 241) (0 + 1) none 0 0 (T_J2_length E i)) ∧ ((true : Bool) = false → zInv l E b0 "ToolUnion" d0 (.invokestatic 241) 0 none 0 0 (T_J2_length E i)) := ⟨Tm_J2_length, (fun _ => zInv.K (MS_J2_length.weak (fun as s K h => ⟨i, Tl_J2_length h, h⟩)) hd (by decide) (lw_V q571 q572 q573 q163 q574) (by decide +kernel) (fun as s K h => Tr_J2_length h)), fun h => nomatch h⟩
theorem IJ_J2_length {l : Launch} {E : zEnv} {b0 d0 i : Nat} (hd : 1 + 1 ≤ d0) : (zTm (T_J2_length E i)) ∧ ((true : Bool) = true → zInv l E b0 "java/lang/String" d0 (.invokevirtual 505) (0 + 1) none 0 0 (T_J2_length E i)) ∧ ((true : Bool) = false → zInv l E b0 "java/lang/String" d0 (.invokestatic 505) 0 none 0 0 (T_J2_length E i)) := ⟨Tm_J2_length, (fun _ => zInv.K (MS_J2_length.weak (fun as s K h => ⟨i, Tl_J2_length h, h⟩)) hd (by decide) (lw_V q637 q572 q573 q163 q574) (by decide +kernel) (fun as s K h => Tr_J2_length h)), fun h => nomatch h⟩
def T_J2_isLatin1 (E : zEnv) (i : Nat) : zT zσ := fun as s K => match as with
  | [.ref a] => i < zN ∧ (a = E.aK i) ∧ K (some (.int 1)) s
  | _ => False
theorem TE_J2_isLatin1 {E : zEnv} {i : Nat} {a : Nat} {s : zσ} {K : Option Value → zσ → Prop} : T_J2_isLatin1 E i [.ref a] s K = (i < zN ∧ (a = E.aK i) ∧ K (some (.int 1)) s) := rfl
theorem Tm_J2_isLatin1 {E : zEnv} {i : Nat} : zTm (T_J2_isLatin1 E i) := by
  intro as s K K' h q
  unfold T_J2_isLatin1 at *
  split at q <;> first | exact ⟨q.1, q.2.1, h _ _ q.2.2⟩ | exact q.elim
theorem Ta_J2_isLatin1 {E : zEnv} {i : Nat} : zTa (T_J2_isLatin1 E i) 1 := by
  intro as s K q
  unfold T_J2_isLatin1 at q
  split at q
  · refine ⟨rfl, fun v hv => ?_⟩
    simp only [List.mem_cons, List.not_mem_nil, or_false] at hv
    rcases hv with rfl <;> first | rfl | exact q.2.1.1
  · exact q.elim
theorem Tl_J2_isLatin1 {E : zEnv} {i : Nat} {as : List Value} {s : zσ} {K : Option Value → zσ → Prop} (q : T_J2_isLatin1 E i as s K) : i < zN := by
  unfold T_J2_isLatin1 at q
  split at q <;> first | exact q.1 | exact q.elim
abbrev G_J2_isLatin1 (E : zEnv) (i : Nat) : zΓ zσ := []
theorem Z_J2_isLatin1_0 {σ : Type} {ret : Option FieldType} {hp : Instr → List Value → σ → (List Value → σ → Prop) → Prop} {K : Option Value → σ → Prop} {S : Nat → zL → List Value → σ → Prop} {L : zL} {s : σ} {st : List Value} : zone ret hp K cJ2_isLatin1 S 0 L st s = (hp (.getstatic 38) st s (fun st' s' => S 3 L st' s')) := zone_of dJ2_isLatin1_0 rfl
theorem Z_J2_isLatin1_3 {σ : Type} {ret : Option FieldType} {hp : Instr → List Value → σ → (List Value → σ → Prop) → Prop} {K : Option Value → σ → Prop} {S : Nat → zL → List Value → σ → Prop} {L : zL} {s : σ} {st : List Value} : zone ret hp K cJ2_isLatin1 S 3 L st s = (zb1 st fun x r => if x = 0 then S 17 L r s else S 6 L r s) := zone_if_eq dJ2_isLatin1_3 (by decide)
theorem Z_J2_isLatin1_6 {σ : Type} {ret : Option FieldType} {hp : Instr → List Value → σ → (List Value → σ → Prop) → Prop} {K : Option Value → σ → Prop} {S : Nat → zL → List Value → σ → Prop} {L : zL} {s : σ} {st : List Value} : zone ret hp K cJ2_isLatin1 S 6 L st s = (zlda L 0 fun v => S 7 L (v :: st) s) := zone_of dJ2_isLatin1_6 rfl
theorem Z_J2_isLatin1_7 {σ : Type} {ret : Option FieldType} {hp : Instr → List Value → σ → (List Value → σ → Prop) → Prop} {K : Option Value → σ → Prop} {S : Nat → zL → List Value → σ → Prop} {L : zL} {s : σ} {st : List Value} : zone ret hp K cJ2_isLatin1 S 7 L st s = (hp (.getfield 15) st s (fun st' s' => S 10 L st' s')) := zone_of dJ2_isLatin1_7 rfl
theorem Z_J2_isLatin1_10 {σ : Type} {ret : Option FieldType} {hp : Instr → List Value → σ → (List Value → σ → Prop) → Prop} {K : Option Value → σ → Prop} {S : Nat → zL → List Value → σ → Prop} {L : zL} {s : σ} {st : List Value} : zone ret hp K cJ2_isLatin1 S 10 L st s = (zb1 st fun x r => if x = 0 then S 13 L r s else S 17 L r s) := zone_if_ne dJ2_isLatin1_10 (by decide)
theorem Z_J2_isLatin1_13 {σ : Type} {ret : Option FieldType} {hp : Instr → List Value → σ → (List Value → σ → Prop) → Prop} {K : Option Value → σ → Prop} {S : Nat → zL → List Value → σ → Prop} {L : zL} {s : σ} {st : List Value} : zone ret hp K cJ2_isLatin1 S 13 L st s = (S 14 L (.int 1 :: st) s) := zone_iconst dJ2_isLatin1_13 (by decide)
theorem Z_J2_isLatin1_14 {σ : Type} {ret : Option FieldType} {hp : Instr → List Value → σ → (List Value → σ → Prop) → Prop} {K : Option Value → σ → Prop} {S : Nat → zL → List Value → σ → Prop} {L : zL} {s : σ} {st : List Value} : zone ret hp K cJ2_isLatin1 S 14 L st s = (S 18 L st s) := zone_goto dJ2_isLatin1_14 (by decide)
theorem Z_J2_isLatin1_17 {σ : Type} {ret : Option FieldType} {hp : Instr → List Value → σ → (List Value → σ → Prop) → Prop} {K : Option Value → σ → Prop} {S : Nat → zL → List Value → σ → Prop} {L : zL} {s : σ} {st : List Value} : zone ret hp K cJ2_isLatin1 S 17 L st s = (S 18 L (.int 0 :: st) s) := zone_iconst dJ2_isLatin1_17 (by decide)
theorem Z_J2_isLatin1_18 {σ : Type} {ret : Option FieldType} {hp : Instr → List Value → σ → (List Value → σ → Prop) → Prop} {K : Option Value → σ → Prop} {S : Nat → zL → List Value → σ → Prop} {L : zL} {s : σ} {v : Int32} : zone ret hp K cJ2_isLatin1 S 18 L [.int v] s = (zretI ret v ∧ K (some (.int v)) s) := zone_of dJ2_isLatin1_18 rfl
set_option maxRecDepth 100000 in
set_option maxHeartbeats 4000000 in
theorem B_J2_isLatin1 {E : zEnv} (i : Nat) (a : Nat) (s : zσ) (K : Option Value → zσ → Prop) (hT : T_J2_isLatin1 E i [.ref a] s K) (S : Nat → zL → List Value → zσ → Prop) (hm : zMono (zJhp E i [(9, 0), (15, 1)] [(38, 9), (1053, 10)] (G_J2_isLatin1 E i))) (hc : zClosed (some .boolean) (zJhp E i [(9, 0), (15, 1)] [(38, 9), (1053, 10)] (G_J2_isLatin1 E i)) K cJ2_isLatin1 S) : S 0 [some (.ref a)] [] s := by
  obtain ⟨hi, rfl, hK⟩ := hT
  refine zgo hm hc (fun _ => false) 20 ?_
  simp (config := {decide := true, maxSteps := 1000000}) (disch := first | rfl | decide | omega) only [↓Z_J2_isLatin1_0, ↓Z_J2_isLatin1_3, ↓Z_J2_isLatin1_6, ↓Z_J2_isLatin1_7, ↓Z_J2_isLatin1_10, ↓Z_J2_isLatin1_13, ↓Z_J2_isLatin1_14, ↓Z_J2_isLatin1_17, ↓Z_J2_isLatin1_18, ↓reduceIte, ↓zrun_stop, ↓zrun_step, ↓zb2_i, ↓zb1_i, ↓zldi_0, ↓zldi_s, ↓zlda_0, ↓zlda_n, ↓zlda_s, ↓zsc_0, ↓zsc_s, ↓zsti_c, ↓zsta_r, ↓zsta_n, ↓zic_0, ↓zic_s, ↓zpush_s, ↓zpush_n, ↓zfew_0, ↓zfew_i, ↓zfew_r, ↓zfew_n, ↓zJhp_g0, ↓zJhp_g1, ↓zJhp_s38, ↓zJhp_s1053, ↓zJhp_al, ↓zJhp_bl, ↓zJhp_iS, ↓zJhp_iV, zcat_int, zcat_ref, zcat_null, zret_int, zret_b0, zret_b1, zret_b, Nat.reduceAdd, Nat.reduceSub, Nat.reduceLT, Nat.reduceEqDiff, Nat.reduceBEq, Nat.reduceBNe, true_and, and_true, if_true, if_false, Bool.false_eq_true, Bool.true_eq_false, Bool.or_self, Bool.or_false, Bool.or_true, Bool.false_or, Bool.true_or, zbi_e0, zbi_e1, eq_self, reduceCtorEq, Fin.isValue, zent, List.map_cons, List.map_nil, List.length_cons, List.length_nil, List.replicate, List.cons_append, List.nil_append, List.append_nil, Nat.zero_add, Nat.add_zero, zF_1, zF_2, zA_1, zA_2s, zA_2n, zB_1, zB_2s, zB_2n, not_true_eq_false, not_false_eq_true, Int32.reduceLT, Int32.reduceAdd, Int32.reduceSub, Int32.reduceMul, ne_eq, Int32.reduceToNatClampNeg, zlit_vp, nI_al, nI_la, nI_lm, nI_ml, nI_ltl, nI_llt, nI_eql, nI_lt2, nI_eq2, nI_vp, nI_cl, nI_add, pk_mul, nI_divl, nI_sub2, nI_lsub, nI_ne0l, nI_1, nI_pred, pk_m1, upd_s, upd_n, Nat.lt_irrefl, decide_eq_false_iff_not, decide_eq_true_eq, ite_not, ite_self, Nat.reducePow, Nat.reduceMul, zstv_9]
  exact hK
theorem MS_J2_isLatin1 {l : Launch} {E : zEnv} {b0 : Nat} : zMS l E b0 0 yJ2_isLatin1 (ws_ yJ2_isLatin1 cJ2_isLatin1 1 (some .boolean)) 0 0 (fun as s K => ∃ i, i < zN ∧ T_J2_isLatin1 E i as s K) := by
  refine zJ_MS (T := T_J2_isLatin1 E) (Γ := fun i => G_J2_isLatin1 E i) (own := RJ2) (na := 1) (fl := [(9, 0), (15, 1)]) (st9 := [(38, 9), (1053, 10)]) rfl (by decide) (fun i => zJok_nil) zJt_J2 (fun i => Ta_J2_isLatin1) (by decide) ?_
  intro i hi as s K hT S hm hc
  have h0 := hT
  unfold T_J2_isLatin1 at h0
  split at h0
  · exact B_J2_isLatin1 i _ s K hT S hm hc
  · exact h0.elim
theorem Tr_J2_isLatin1 {E : zEnv} {i : Nat} {as : List Value} {s : zσ} {K : Option Value → zσ → Prop} (q : T_J2_isLatin1 E i as s K) : ∃ i as', i < zN ∧ as = .ref (E.aK i) :: as' := by
  unfold T_J2_isLatin1 at q
  split at q
  · obtain ⟨h1, h2, -⟩ := q
    exact ⟨i, _, h1, by rw [h2]⟩
  · exact q.elim
theorem IJ_J2_isLatin1 {l : Launch} {E : zEnv} {b0 d0 i : Nat} (hd : 0 + 1 ≤ d0) : (zTm (T_J2_isLatin1 E i)) ∧ ((true : Bool) = true → zInv l E b0 "java/lang/String" d0 (.invokevirtual 492) (0 + 1) none 0 0 (T_J2_isLatin1 E i)) ∧ ((true : Bool) = false → zInv l E b0 "java/lang/String" d0 (.invokestatic 492) 0 none 0 0 (T_J2_isLatin1 E i)) := ⟨Tm_J2_isLatin1, (fun _ => zInv.K (MS_J2_isLatin1.weak (fun as s K h => ⟨i, Tl_J2_isLatin1 h, h⟩)) hd (by decide) (lw_V q585 q586 q587 q163 q588) (by decide +kernel) (fun as s K h => Tr_J2_isLatin1 h)), fun h => nomatch h⟩
def T_J4_checkIndex (E : zEnv) (i : Nat) : zT zσ := fun as s K => match as with
  | [.int x, .int y, v] => i < zN ∧ (v.category = 1 ∧ ¬ x < 0 ∧ x < y) ∧ K (some (.int x)) s
  | _ => False
theorem TE_J4_checkIndex {E : zEnv} {i : Nat} {x : Int32} {y : Int32} {v : Value} {s : zσ} {K : Option Value → zσ → Prop} : T_J4_checkIndex E i [.int x, .int y, v] s K = (i < zN ∧ (v.category = 1 ∧ ¬ x < 0 ∧ x < y) ∧ K (some (.int x)) s) := rfl
theorem Tm_J4_checkIndex {E : zEnv} {i : Nat} : zTm (T_J4_checkIndex E i) := by
  intro as s K K' h q
  unfold T_J4_checkIndex at *
  split at q <;> first | exact ⟨q.1, q.2.1, h _ _ q.2.2⟩ | exact q.elim
theorem Ta_J4_checkIndex {E : zEnv} {i : Nat} : zTa (T_J4_checkIndex E i) 3 := by
  intro as s K q
  unfold T_J4_checkIndex at q
  split at q
  · refine ⟨rfl, fun v hv => ?_⟩
    simp only [List.mem_cons, List.not_mem_nil, or_false] at hv
    rcases hv with rfl | rfl | rfl <;> first | rfl | exact q.2.1.1
  · exact q.elim
theorem Tl_J4_checkIndex {E : zEnv} {i : Nat} {as : List Value} {s : zσ} {K : Option Value → zσ → Prop} (q : T_J4_checkIndex E i as s K) : i < zN := by
  unfold T_J4_checkIndex at q
  split at q <;> first | exact q.1 | exact q.elim
abbrev G_J4_checkIndex (E : zEnv) (i : Nat) : zΓ zσ := []
theorem Z_J4_checkIndex_0 {σ : Type} {ret : Option FieldType} {hp : Instr → List Value → σ → (List Value → σ → Prop) → Prop} {K : Option Value → σ → Prop} {S : Nat → zL → List Value → σ → Prop} {L : zL} {s : σ} {st : List Value} : zone ret hp K cJ4_checkIndex S 0 L st s = (zldi L 0 fun v => S 1 L (v :: st) s) := zone_of dJ4_checkIndex_0 rfl
theorem Z_J4_checkIndex_1 {σ : Type} {ret : Option FieldType} {hp : Instr → List Value → σ → (List Value → σ → Prop) → Prop} {K : Option Value → σ → Prop} {S : Nat → zL → List Value → σ → Prop} {L : zL} {s : σ} {st : List Value} : zone ret hp K cJ4_checkIndex S 1 L st s = (zb1 st fun x r => if x < 0 then S 9 L r s else S 4 L r s) := zone_if_lt dJ4_checkIndex_1 (by decide)
theorem Z_J4_checkIndex_4 {σ : Type} {ret : Option FieldType} {hp : Instr → List Value → σ → (List Value → σ → Prop) → Prop} {K : Option Value → σ → Prop} {S : Nat → zL → List Value → σ → Prop} {L : zL} {s : σ} {st : List Value} : zone ret hp K cJ4_checkIndex S 4 L st s = (zldi L 0 fun v => S 5 L (v :: st) s) := zone_of dJ4_checkIndex_4 rfl
theorem Z_J4_checkIndex_5 {σ : Type} {ret : Option FieldType} {hp : Instr → List Value → σ → (List Value → σ → Prop) → Prop} {K : Option Value → σ → Prop} {S : Nat → zL → List Value → σ → Prop} {L : zL} {s : σ} {st : List Value} : zone ret hp K cJ4_checkIndex S 5 L st s = (zldi L 1 fun v => S 6 L (v :: st) s) := zone_of dJ4_checkIndex_5 rfl
theorem Z_J4_checkIndex_6 {σ : Type} {ret : Option FieldType} {hp : Instr → List Value → σ → (List Value → σ → Prop) → Prop} {K : Option Value → σ → Prop} {S : Nat → zL → List Value → σ → Prop} {L : zL} {s : σ} {st : List Value} : zone ret hp K cJ4_checkIndex S 6 L st s = (zb2 st fun x y r => if x < y then S 16 L r s else S 9 L r s) := zone_ic_lt dJ4_checkIndex_6 (by decide)
theorem Z_J4_checkIndex_9 {σ : Type} {ret : Option FieldType} {hp : Instr → List Value → σ → (List Value → σ → Prop) → Prop} {K : Option Value → σ → Prop} {S : Nat → zL → List Value → σ → Prop} {L : zL} {s : σ} {st : List Value} : zone ret hp K cJ4_checkIndex S 9 L st s = (zlda L 2 fun v => S 10 L (v :: st) s) := zone_of dJ4_checkIndex_9 rfl
theorem Z_J4_checkIndex_10 {σ : Type} {ret : Option FieldType} {hp : Instr → List Value → σ → (List Value → σ → Prop) → Prop} {K : Option Value → σ → Prop} {S : Nat → zL → List Value → σ → Prop} {L : zL} {s : σ} {st : List Value} : zone ret hp K cJ4_checkIndex S 10 L st s = (zldi L 0 fun v => S 11 L (v :: st) s) := zone_of dJ4_checkIndex_10 rfl
theorem Z_J4_checkIndex_11 {σ : Type} {ret : Option FieldType} {hp : Instr → List Value → σ → (List Value → σ → Prop) → Prop} {K : Option Value → σ → Prop} {S : Nat → zL → List Value → σ → Prop} {L : zL} {s : σ} {st : List Value} : zone ret hp K cJ4_checkIndex S 11 L st s = (zldi L 1 fun v => S 12 L (v :: st) s) := zone_of dJ4_checkIndex_11 rfl
theorem Z_J4_checkIndex_12 {σ : Type} {ret : Option FieldType} {hp : Instr → List Value → σ → (List Value → σ → Prop) → Prop} {K : Option Value → σ → Prop} {S : Nat → zL → List Value → σ → Prop} {L : zL} {s : σ} {st : List Value} : zone ret hp K cJ4_checkIndex S 12 L st s = (hp (.invokestatic 95) st s (fun st' s' => S 15 L st' s')) := zone_of dJ4_checkIndex_12 rfl
theorem Z_J4_checkIndex_15 {σ : Type} {ret : Option FieldType} {hp : Instr → List Value → σ → (List Value → σ → Prop) → Prop} {K : Option Value → σ → Prop} {S : Nat → zL → List Value → σ → Prop} {L : zL} {s : σ} {st : List Value} : zone ret hp K cJ4_checkIndex S 15 L st s = (hp (.athrow) st s (fun st' s' => S 16 L st' s')) := zone_of dJ4_checkIndex_15 rfl
theorem Z_J4_checkIndex_16 {σ : Type} {ret : Option FieldType} {hp : Instr → List Value → σ → (List Value → σ → Prop) → Prop} {K : Option Value → σ → Prop} {S : Nat → zL → List Value → σ → Prop} {L : zL} {s : σ} {st : List Value} : zone ret hp K cJ4_checkIndex S 16 L st s = (zldi L 0 fun v => S 17 L (v :: st) s) := zone_of dJ4_checkIndex_16 rfl
theorem Z_J4_checkIndex_17 {σ : Type} {ret : Option FieldType} {hp : Instr → List Value → σ → (List Value → σ → Prop) → Prop} {K : Option Value → σ → Prop} {S : Nat → zL → List Value → σ → Prop} {L : zL} {s : σ} {v : Int32} : zone ret hp K cJ4_checkIndex S 17 L [.int v] s = (zretI ret v ∧ K (some (.int v)) s) := zone_of dJ4_checkIndex_17 rfl
set_option maxRecDepth 100000 in
set_option maxHeartbeats 4000000 in
theorem B_J4_checkIndex {E : zEnv} (i : Nat) (x : Int32) (y : Int32) (v : Value) (s : zσ) (K : Option Value → zσ → Prop) (hT : T_J4_checkIndex E i [.int x, .int y, v] s K) (S : Nat → zL → List Value → zσ → Prop) (hm : zMono (zJhp E i [] [] (G_J4_checkIndex E i))) (hc : zClosed (some .int) (zJhp E i [] [] (G_J4_checkIndex E i)) K cJ4_checkIndex S) : S 0 [some (.int x), some (.int y), some (v)] [] s := by
  obtain ⟨hi, ⟨hv, h0, h1⟩, hK⟩ := hT
  refine zgo hm hc (fun _ => false) 20 ?_
  simp (config := {decide := true, maxSteps := 1000000}) (disch := first | rfl | decide | omega) only [↓Z_J4_checkIndex_0, ↓Z_J4_checkIndex_1, ↓Z_J4_checkIndex_4, ↓Z_J4_checkIndex_5, ↓Z_J4_checkIndex_6, ↓Z_J4_checkIndex_9, ↓Z_J4_checkIndex_10, ↓Z_J4_checkIndex_11, ↓Z_J4_checkIndex_12, ↓Z_J4_checkIndex_15, ↓Z_J4_checkIndex_16, ↓Z_J4_checkIndex_17, ↓reduceIte, ↓zrun_stop, ↓zrun_step, ↓zb2_i, ↓zb1_i, ↓zldi_0, ↓zldi_s, ↓zlda_0, ↓zlda_n, ↓zlda_s, ↓zsc_0, ↓zsc_s, ↓zsti_c, ↓zsta_r, ↓zsta_n, ↓zic_0, ↓zic_s, ↓zpush_s, ↓zpush_n, ↓zfew_0, ↓zfew_i, ↓zfew_r, ↓zfew_n, ↓zJhp_g0, ↓zJhp_g1, ↓zJhp_s38, ↓zJhp_s1053, ↓zJhp_al, ↓zJhp_bl, ↓zJhp_iS, ↓zJhp_iV, zcat_int, zcat_ref, zcat_null, zret_int, zret_b0, zret_b1, zret_b, Nat.reduceAdd, Nat.reduceSub, Nat.reduceLT, Nat.reduceEqDiff, Nat.reduceBEq, Nat.reduceBNe, true_and, and_true, if_true, if_false, Bool.false_eq_true, Bool.true_eq_false, Bool.or_self, Bool.or_false, Bool.or_true, Bool.false_or, Bool.true_or, zbi_e0, zbi_e1, eq_self, reduceCtorEq, Fin.isValue, zent, List.map_cons, List.map_nil, List.length_cons, List.length_nil, List.replicate, List.cons_append, List.nil_append, List.append_nil, Nat.zero_add, Nat.add_zero, zF_1, zF_2, zA_1, zA_2s, zA_2n, zB_1, zB_2s, zB_2n, not_true_eq_false, not_false_eq_true, Int32.reduceLT, Int32.reduceAdd, Int32.reduceSub, Int32.reduceMul, ne_eq, Int32.reduceToNatClampNeg, zlit_vp, nI_al, nI_la, nI_lm, nI_ml, nI_ltl, nI_llt, nI_eql, nI_lt2, nI_eq2, nI_vp, nI_cl, nI_add, pk_mul, nI_divl, nI_sub2, nI_lsub, nI_ne0l, nI_1, nI_pred, pk_m1, upd_s, upd_n, Nat.lt_irrefl, decide_eq_false_iff_not, decide_eq_true_eq, ite_not, ite_self, Nat.reducePow, Nat.reduceMul, h0, h1]
  exact hK
theorem MS_J4_checkIndex {l : Launch} {E : zEnv} {b0 : Nat} : zMS l E b0 0 yJ4_checkIndex (ws_ yJ4_checkIndex cJ4_checkIndex 3 (some .int)) 0 0 (fun as s K => ∃ i, i < zN ∧ T_J4_checkIndex E i as s K) := by
  refine zJ_MS (T := T_J4_checkIndex E) (Γ := fun i => G_J4_checkIndex E i) (own := RJ4) (na := 3) (fl := []) (st9 := []) rfl (by decide) (fun i => zJok_nil) zJt_0 (fun i => Ta_J4_checkIndex) (by decide) ?_
  intro i hi as s K hT S hm hc
  have h0 := hT
  unfold T_J4_checkIndex at h0
  split at h0
  · exact B_J4_checkIndex i _ _ _ s K hT S hm hc
  · exact h0.elim
theorem IJ_J4_checkIndex {l : Launch} {E : zEnv} {b0 d0 i : Nat} (hd : 0 + 1 ≤ d0) : (zTm (T_J4_checkIndex E i)) ∧ ((false : Bool) = true → zInv l E b0 "java/lang/String" d0 (.invokevirtual 1059) (3 + 1) none 0 0 (T_J4_checkIndex E i)) ∧ ((false : Bool) = false → zInv l E b0 "java/lang/String" d0 (.invokestatic 1059) 3 none 0 0 (T_J4_checkIndex E i)) := ⟨Tm_J4_checkIndex, (fun h => nomatch h), fun _ => zInv.S (MS_J4_checkIndex.weak (fun as s K h => ⟨i, Tl_J4_checkIndex h, h⟩)) hd (by decide) (lw_S q597 q598 q165 q599) (by decide +kernel)⟩
def T_J2_checkIndex (E : zEnv) (i : Nat) : zT zσ := fun as s K => match as with
  | [.int x, .int y] => i < zN ∧ (¬ x < 0 ∧ x < y) ∧ K (none) s
  | _ => False
theorem TE_J2_checkIndex {E : zEnv} {i : Nat} {x : Int32} {y : Int32} {s : zσ} {K : Option Value → zσ → Prop} : T_J2_checkIndex E i [.int x, .int y] s K = (i < zN ∧ (¬ x < 0 ∧ x < y) ∧ K (none) s) := rfl
theorem Tm_J2_checkIndex {E : zEnv} {i : Nat} : zTm (T_J2_checkIndex E i) := by
  intro as s K K' h q
  unfold T_J2_checkIndex at *
  split at q <;> first | exact ⟨q.1, q.2.1, h _ _ q.2.2⟩ | exact q.elim
theorem Ta_J2_checkIndex {E : zEnv} {i : Nat} : zTa (T_J2_checkIndex E i) 2 := by
  intro as s K q
  unfold T_J2_checkIndex at q
  split at q
  · refine ⟨rfl, fun v hv => ?_⟩
    simp only [List.mem_cons, List.not_mem_nil, or_false] at hv
    rcases hv with rfl | rfl <;> first | rfl | exact q.2.1.1
  · exact q.elim
theorem Tl_J2_checkIndex {E : zEnv} {i : Nat} {as : List Value} {s : zσ} {K : Option Value → zσ → Prop} (q : T_J2_checkIndex E i as s K) : i < zN := by
  unfold T_J2_checkIndex at q
  split at q <;> first | exact q.1 | exact q.elim
abbrev G_J2_checkIndex (E : zEnv) (i : Nat) : zΓ zσ := [(1059, false, 3, T_J4_checkIndex E i)]
theorem Z_J2_checkIndex_0 {σ : Type} {ret : Option FieldType} {hp : Instr → List Value → σ → (List Value → σ → Prop) → Prop} {K : Option Value → σ → Prop} {S : Nat → zL → List Value → σ → Prop} {L : zL} {s : σ} {st : List Value} : zone ret hp K cJ2_checkIndex S 0 L st s = (zldi L 0 fun v => S 1 L (v :: st) s) := zone_of dJ2_checkIndex_0 rfl
theorem Z_J2_checkIndex_1 {σ : Type} {ret : Option FieldType} {hp : Instr → List Value → σ → (List Value → σ → Prop) → Prop} {K : Option Value → σ → Prop} {S : Nat → zL → List Value → σ → Prop} {L : zL} {s : σ} {st : List Value} : zone ret hp K cJ2_checkIndex S 1 L st s = (zldi L 1 fun v => S 2 L (v :: st) s) := zone_of dJ2_checkIndex_1 rfl
theorem Z_J2_checkIndex_2 {σ : Type} {ret : Option FieldType} {hp : Instr → List Value → σ → (List Value → σ → Prop) → Prop} {K : Option Value → σ → Prop} {S : Nat → zL → List Value → σ → Prop} {L : zL} {s : σ} {st : List Value} : zone ret hp K cJ2_checkIndex S 2 L st s = (hp (.getstatic 1053) st s (fun st' s' => S 5 L st' s')) := zone_of dJ2_checkIndex_2 rfl
theorem Z_J2_checkIndex_5 {σ : Type} {ret : Option FieldType} {hp : Instr → List Value → σ → (List Value → σ → Prop) → Prop} {K : Option Value → σ → Prop} {S : Nat → zL → List Value → σ → Prop} {L : zL} {s : σ} {st : List Value} : zone ret hp K cJ2_checkIndex S 5 L st s = (hp (.invokestatic 1059) st s (fun st' s' => S 8 L st' s')) := zone_of dJ2_checkIndex_5 rfl
theorem Z_J2_checkIndex_8 {σ : Type} {ret : Option FieldType} {hp : Instr → List Value → σ → (List Value → σ → Prop) → Prop} {K : Option Value → σ → Prop} {S : Nat → zL → List Value → σ → Prop} {L : zL} {s : σ} {r : List Value} {x : Value} : zone ret hp K cJ2_checkIndex S 8 L (x :: r) s = (x.category = 1 ∧ S 9 L r s) := zone_of dJ2_checkIndex_8 rfl
theorem Z_J2_checkIndex_9 {σ : Type} {ret : Option FieldType} {hp : Instr → List Value → σ → (List Value → σ → Prop) → Prop} {K : Option Value → σ → Prop} {S : Nat → zL → List Value → σ → Prop} {L : zL} {s : σ} : zone ret hp K cJ2_checkIndex S 9 L [] s = (ret = none ∧ K none s) := zone_of dJ2_checkIndex_9 rfl
theorem CC_J2_checkIndex_1059 {E : zEnv} {i : Nat} {a0 a1 a2 : Value} {r : List Value} {s : zσ} {k : List Value → zσ → Prop} : zcallS (G_J2_checkIndex E i) 1059 (a2 :: a1 :: a0 :: r) s k = (zfew r 8 = true ∧ T_J4_checkIndex E i [a0, a1, a2] s (fun v s' => zpush v r (fun q => k q s'))) := zcS_n rfl rfl
set_option maxRecDepth 100000 in
set_option maxHeartbeats 4000000 in
theorem B_J2_checkIndex {E : zEnv} (i : Nat) (x : Int32) (y : Int32) (s : zσ) (K : Option Value → zσ → Prop) (hT : T_J2_checkIndex E i [.int x, .int y] s K) (S : Nat → zL → List Value → zσ → Prop) (hm : zMono (zJhp E i [(9, 0), (15, 1)] [(38, 9), (1053, 10)] (G_J2_checkIndex E i))) (hc : zClosed none (zJhp E i [(9, 0), (15, 1)] [(38, 9), (1053, 10)] (G_J2_checkIndex E i)) K cJ2_checkIndex S) : S 0 [some (.int x), some (.int y)] [] s := by
  obtain ⟨hi, ⟨h0, h1⟩, hK⟩ := hT
  refine zgo hm hc (fun _ => false) 20 ?_
  simp (config := {decide := true, maxSteps := 1000000}) (disch := first | rfl | decide | omega) only [↓Z_J2_checkIndex_0, ↓Z_J2_checkIndex_1, ↓Z_J2_checkIndex_2, ↓Z_J2_checkIndex_5, ↓Z_J2_checkIndex_8, ↓Z_J2_checkIndex_9, ↓reduceIte, ↓zrun_stop, ↓zrun_step, ↓zb2_i, ↓zb1_i, ↓zldi_0, ↓zldi_s, ↓zlda_0, ↓zlda_n, ↓zlda_s, ↓zsc_0, ↓zsc_s, ↓zsti_c, ↓zsta_r, ↓zsta_n, ↓zic_0, ↓zic_s, ↓zpush_s, ↓zpush_n, ↓zfew_0, ↓zfew_i, ↓zfew_r, ↓zfew_n, ↓zJhp_g0, ↓zJhp_g1, ↓zJhp_s38, ↓zJhp_s1053, ↓zJhp_al, ↓zJhp_bl, ↓zJhp_iS, ↓zJhp_iV, ↓CC_J2_checkIndex_1059, ↓TE_J4_checkIndex, zcat_int, zcat_ref, zcat_null, zret_int, zret_b0, zret_b1, zret_b, Nat.reduceAdd, Nat.reduceSub, Nat.reduceLT, Nat.reduceEqDiff, Nat.reduceBEq, Nat.reduceBNe, true_and, and_true, if_true, if_false, Bool.false_eq_true, Bool.true_eq_false, Bool.or_self, Bool.or_false, Bool.or_true, Bool.false_or, Bool.true_or, zbi_e0, zbi_e1, eq_self, reduceCtorEq, Fin.isValue, zent, List.map_cons, List.map_nil, List.length_cons, List.length_nil, List.replicate, List.cons_append, List.nil_append, List.append_nil, Nat.zero_add, Nat.add_zero, zF_1, zF_2, zA_1, zA_2s, zA_2n, zB_1, zB_2s, zB_2n, not_true_eq_false, not_false_eq_true, Int32.reduceLT, Int32.reduceAdd, Int32.reduceSub, Int32.reduceMul, ne_eq, Int32.reduceToNatClampNeg, zlit_vp, nI_al, nI_la, nI_lm, nI_ml, nI_ltl, nI_llt, nI_eql, nI_lt2, nI_eq2, nI_vp, nI_cl, nI_add, pk_mul, nI_divl, nI_sub2, nI_lsub, nI_ne0l, nI_1, nI_pred, pk_m1, upd_s, upd_n, Nat.lt_irrefl, decide_eq_false_iff_not, decide_eq_true_eq, ite_not, ite_self, Nat.reducePow, Nat.reduceMul, hi, h0, h1, zstv_c]
  exact hK
theorem MS_J2_checkIndex {l : Launch} {E : zEnv} {b0 : Nat} : zMS l E b0 1 yJ2_checkIndex (ws_ yJ2_checkIndex cJ2_checkIndex 2 none) 0 0 (fun as s K => ∃ i, i < zN ∧ T_J2_checkIndex E i as s K) := by
  refine zJ_MS (T := T_J2_checkIndex E) (Γ := fun i => G_J2_checkIndex E i) (own := RJ2) (na := 2) (fl := [(9, 0), (15, 1)]) (st9 := [(38, 9), (1053, 10)]) rfl (by decide) (fun i => zJok_cons (IJ_J4_checkIndex (by decide)) (zJok_nil)) zJt_J2 (fun i => Ta_J2_checkIndex) (by decide) ?_
  intro i hi as s K hT S hm hc
  have h0 := hT
  unfold T_J2_checkIndex at h0
  split at h0
  · exact B_J2_checkIndex i _ _ s K hT S hm hc
  · exact h0.elim
theorem IJ_J2_checkIndex {l : Launch} {E : zEnv} {b0 d0 i : Nat} (hd : 1 + 1 ≤ d0) : (zTm (T_J2_checkIndex E i)) ∧ ((false : Bool) = true → zInv l E b0 "java/lang/StringLatin1" d0 (.invokevirtual 9) (2 + 1) none 0 0 (T_J2_checkIndex E i)) ∧ ((false : Bool) = false → zInv l E b0 "java/lang/StringLatin1" d0 (.invokestatic 9) 2 none 0 0 (T_J2_checkIndex E i)) := ⟨Tm_J2_checkIndex, (fun h => nomatch h), fun _ => zInv.S (MS_J2_checkIndex.weak (fun as s K h => ⟨i, Tl_J2_checkIndex h, h⟩)) hd (by decide) (lw_S q592 q593 q163 q594) (by decide +kernel)⟩
def T_J3_charAt (E : zEnv) (i : Nat) : zT zσ := fun as s K => match as with
  | [.ref a, .int x] => i < zN ∧ (a = E.aV i ∧ vp_in x (zslenI i)) ∧ K (some (.int (zsch i x.toNatClampNeg))) s
  | _ => False
theorem TE_J3_charAt {E : zEnv} {i : Nat} {a : Nat} {x : Int32} {s : zσ} {K : Option Value → zσ → Prop} : T_J3_charAt E i [.ref a, .int x] s K = (i < zN ∧ (a = E.aV i ∧ vp_in x (zslenI i)) ∧ K (some (.int (zsch i x.toNatClampNeg))) s) := rfl
theorem Tm_J3_charAt {E : zEnv} {i : Nat} : zTm (T_J3_charAt E i) := by
  intro as s K K' h q
  unfold T_J3_charAt at *
  split at q <;> first | exact ⟨q.1, q.2.1, h _ _ q.2.2⟩ | exact q.elim
theorem Ta_J3_charAt {E : zEnv} {i : Nat} : zTa (T_J3_charAt E i) 2 := by
  intro as s K q
  unfold T_J3_charAt at q
  split at q
  · refine ⟨rfl, fun v hv => ?_⟩
    simp only [List.mem_cons, List.not_mem_nil, or_false] at hv
    rcases hv with rfl | rfl <;> first | rfl | exact q.2.1.1
  · exact q.elim
theorem Tl_J3_charAt {E : zEnv} {i : Nat} {as : List Value} {s : zσ} {K : Option Value → zσ → Prop} (q : T_J3_charAt E i as s K) : i < zN := by
  unfold T_J3_charAt at q
  split at q <;> first | exact q.1 | exact q.elim
abbrev G_J3_charAt (E : zEnv) (i : Nat) : zΓ zσ := [(9, false, 2, T_J2_checkIndex E i)]
theorem Z_J3_charAt_0 {σ : Type} {ret : Option FieldType} {hp : Instr → List Value → σ → (List Value → σ → Prop) → Prop} {K : Option Value → σ → Prop} {S : Nat → zL → List Value → σ → Prop} {L : zL} {s : σ} {st : List Value} : zone ret hp K cJ3_charAt S 0 L st s = (zldi L 1 fun v => S 1 L (v :: st) s) := zone_of dJ3_charAt_0 rfl
theorem Z_J3_charAt_1 {σ : Type} {ret : Option FieldType} {hp : Instr → List Value → σ → (List Value → σ → Prop) → Prop} {K : Option Value → σ → Prop} {S : Nat → zL → List Value → σ → Prop} {L : zL} {s : σ} {st : List Value} : zone ret hp K cJ3_charAt S 1 L st s = (zlda L 0 fun v => S 2 L (v :: st) s) := zone_of dJ3_charAt_1 rfl
theorem Z_J3_charAt_2 {σ : Type} {ret : Option FieldType} {hp : Instr → List Value → σ → (List Value → σ → Prop) → Prop} {K : Option Value → σ → Prop} {S : Nat → zL → List Value → σ → Prop} {L : zL} {s : σ} {st : List Value} : zone ret hp K cJ3_charAt S 2 L st s = (hp (.arraylength) st s (fun st' s' => S 3 L st' s')) := zone_of dJ3_charAt_2 rfl
theorem Z_J3_charAt_3 {σ : Type} {ret : Option FieldType} {hp : Instr → List Value → σ → (List Value → σ → Prop) → Prop} {K : Option Value → σ → Prop} {S : Nat → zL → List Value → σ → Prop} {L : zL} {s : σ} {st : List Value} : zone ret hp K cJ3_charAt S 3 L st s = (hp (.invokestatic 9) st s (fun st' s' => S 6 L st' s')) := zone_of dJ3_charAt_3 rfl
theorem Z_J3_charAt_6 {σ : Type} {ret : Option FieldType} {hp : Instr → List Value → σ → (List Value → σ → Prop) → Prop} {K : Option Value → σ → Prop} {S : Nat → zL → List Value → σ → Prop} {L : zL} {s : σ} {st : List Value} : zone ret hp K cJ3_charAt S 6 L st s = (zlda L 0 fun v => S 7 L (v :: st) s) := zone_of dJ3_charAt_6 rfl
theorem Z_J3_charAt_7 {σ : Type} {ret : Option FieldType} {hp : Instr → List Value → σ → (List Value → σ → Prop) → Prop} {K : Option Value → σ → Prop} {S : Nat → zL → List Value → σ → Prop} {L : zL} {s : σ} {st : List Value} : zone ret hp K cJ3_charAt S 7 L st s = (zldi L 1 fun v => S 8 L (v :: st) s) := zone_of dJ3_charAt_7 rfl
theorem Z_J3_charAt_8 {σ : Type} {ret : Option FieldType} {hp : Instr → List Value → σ → (List Value → σ → Prop) → Prop} {K : Option Value → σ → Prop} {S : Nat → zL → List Value → σ → Prop} {L : zL} {s : σ} {st : List Value} : zone ret hp K cJ3_charAt S 8 L st s = (hp (.baload) st s (fun st' s' => S 9 L st' s')) := zone_of dJ3_charAt_8 rfl
theorem Z_J3_charAt_9 {σ : Type} {ret : Option FieldType} {hp : Instr → List Value → σ → (List Value → σ → Prop) → Prop} {K : Option Value → σ → Prop} {S : Nat → zL → List Value → σ → Prop} {L : zL} {s : σ} {st : List Value} : zone ret hp K cJ3_charAt S 9 L st s = (S 12 L (.int 255 :: st) s) := zone_sipush dJ3_charAt_9 (by decide)
theorem Z_J3_charAt_12 {σ : Type} {ret : Option FieldType} {hp : Instr → List Value → σ → (List Value → σ → Prop) → Prop} {K : Option Value → σ → Prop} {S : Nat → zL → List Value → σ → Prop} {L : zL} {s : σ} {st : List Value} : zone ret hp K cJ3_charAt S 12 L st s = (zb2 st fun x y r => S 13 L (.int (x &&& y) :: r) s) := zone_of dJ3_charAt_12 rfl
theorem Z_J3_charAt_13 {σ : Type} {ret : Option FieldType} {hp : Instr → List Value → σ → (List Value → σ → Prop) → Prop} {K : Option Value → σ → Prop} {S : Nat → zL → List Value → σ → Prop} {L : zL} {s : σ} {st : List Value} : zone ret hp K cJ3_charAt S 13 L st s = (zb1 st fun x r => S 14 L (.int (x.toUInt32 % 65536).toInt32 :: r) s) := zone_of dJ3_charAt_13 rfl
theorem Z_J3_charAt_14 {σ : Type} {ret : Option FieldType} {hp : Instr → List Value → σ → (List Value → σ → Prop) → Prop} {K : Option Value → σ → Prop} {S : Nat → zL → List Value → σ → Prop} {L : zL} {s : σ} {v : Int32} : zone ret hp K cJ3_charAt S 14 L [.int v] s = (zretI ret v ∧ K (some (.int v)) s) := zone_of dJ3_charAt_14 rfl
theorem CC_J3_charAt_9 {E : zEnv} {i : Nat} {a0 a1 : Value} {r : List Value} {s : zσ} {k : List Value → zσ → Prop} : zcallS (G_J3_charAt E i) 9 (a1 :: a0 :: r) s k = (zfew r 8 = true ∧ T_J2_checkIndex E i [a0, a1] s (fun v s' => zpush v r (fun q => k q s'))) := zcS_n rfl rfl
set_option maxRecDepth 100000 in
set_option maxHeartbeats 4000000 in
theorem B_J3_charAt {E : zEnv} (i : Nat) (a : Nat) (x : Int32) (s : zσ) (K : Option Value → zσ → Prop) (hT : T_J3_charAt E i [.ref a, .int x] s K) (S : Nat → zL → List Value → zσ → Prop) (hm : zMono (zJhp E i [] [] (G_J3_charAt E i))) (hc : zClosed (some .char) (zJhp E i [] [] (G_J3_charAt E i)) K cJ3_charAt S) : S 0 [some (.ref a), some (.int x)] [] s := by
  obtain ⟨hi, ⟨rfl, hx⟩, hK⟩ := hT
  have hl := zslen_lt i hi
  obtain ⟨k, hk, rfl⟩ := vp_in_of hx (by omega)
  rw [nI_clamp (by omega)] at hK
  have h0 : ¬ nI k < 0 := nI_nlt (a := k) (b := 0) (Nat.zero_le _) (by omega)
  have h1 : nI k < nI (zslenI i) := (nI_ltI (by omega) (by omega)).mpr hk
  obtain ⟨c1, c2, c3⟩ := zsch_lt i hi k hk
  refine zgo hm hc (fun _ => false) 30 ?_
  simp (config := {decide := true, maxSteps := 1000000}) (disch := first | rfl | decide | omega) only [↓Z_J3_charAt_0, ↓Z_J3_charAt_1, ↓Z_J3_charAt_2, ↓Z_J3_charAt_3, ↓Z_J3_charAt_6, ↓Z_J3_charAt_7, ↓Z_J3_charAt_8, ↓Z_J3_charAt_9, ↓Z_J3_charAt_12, ↓Z_J3_charAt_13, ↓Z_J3_charAt_14, ↓reduceIte, ↓zrun_stop, ↓zrun_step, ↓zb2_i, ↓zb1_i, ↓zldi_0, ↓zldi_s, ↓zlda_0, ↓zlda_n, ↓zlda_s, ↓zsc_0, ↓zsc_s, ↓zsti_c, ↓zsta_r, ↓zsta_n, ↓zic_0, ↓zic_s, ↓zpush_s, ↓zpush_n, ↓zfew_0, ↓zfew_i, ↓zfew_r, ↓zfew_n, ↓zJhp_g0, ↓zJhp_g1, ↓zJhp_s38, ↓zJhp_s1053, ↓zJhp_al, ↓zJhp_bl, ↓zJhp_iS, ↓zJhp_iV, ↓CC_J3_charAt_9, ↓TE_J2_checkIndex, zcat_int, zcat_ref, zcat_null, zret_int, zret_b0, zret_b1, zret_b, Nat.reduceAdd, Nat.reduceSub, Nat.reduceLT, Nat.reduceEqDiff, Nat.reduceBEq, Nat.reduceBNe, true_and, and_true, if_true, if_false, Bool.false_eq_true, Bool.true_eq_false, Bool.or_self, Bool.or_false, Bool.or_true, Bool.false_or, Bool.true_or, zbi_e0, zbi_e1, eq_self, reduceCtorEq, Fin.isValue, zent, List.map_cons, List.map_nil, List.length_cons, List.length_nil, List.replicate, List.cons_append, List.nil_append, List.append_nil, Nat.zero_add, Nat.add_zero, zF_1, zF_2, zA_1, zA_2s, zA_2n, zB_1, zB_2s, zB_2n, not_true_eq_false, not_false_eq_true, Int32.reduceLT, Int32.reduceAdd, Int32.reduceSub, Int32.reduceMul, ne_eq, Int32.reduceToNatClampNeg, zlit_vp, nI_al, nI_la, nI_lm, nI_ml, nI_ltl, nI_llt, nI_eql, nI_lt2, nI_eq2, nI_vp, nI_cl, nI_add, pk_mul, nI_divl, nI_sub2, nI_lsub, nI_ne0l, nI_1, nI_pred, pk_m1, upd_s, upd_n, Nat.lt_irrefl, decide_eq_false_iff_not, decide_eq_true_eq, ite_not, ite_self, Nat.reducePow, Nat.reduceMul, hi, h0, h1, hx, c1, c2, c3, nI_cl]
  exact hK
theorem MS_J3_charAt {l : Launch} {E : zEnv} {b0 : Nat} : zMS l E b0 2 yJ3_charAt (ws_ yJ3_charAt cJ3_charAt 2 (some .char)) 0 0 (fun as s K => ∃ i, i < zN ∧ T_J3_charAt E i as s K) := by
  refine zJ_MS (T := T_J3_charAt E) (Γ := fun i => G_J3_charAt E i) (own := RJ3) (na := 2) (fl := []) (st9 := []) rfl (by decide) (fun i => zJok_cons (IJ_J2_checkIndex (by decide)) (zJok_nil)) zJt_0 (fun i => Ta_J3_charAt) (by decide) ?_
  intro i hi as s K hT S hm hc
  have h0 := hT
  unfold T_J3_charAt at h0
  split at h0
  · exact B_J3_charAt i _ _ s K hT S hm hc
  · exact h0.elim
theorem IJ_J3_charAt {l : Launch} {E : zEnv} {b0 d0 i : Nat} (hd : 2 + 1 ≤ d0) : (zTm (T_J3_charAt E i)) ∧ ((false : Bool) = true → zInv l E b0 "java/lang/String" d0 (.invokevirtual 495) (2 + 1) none 0 0 (T_J3_charAt E i)) ∧ ((false : Bool) = false → zInv l E b0 "java/lang/String" d0 (.invokestatic 495) 2 none 0 0 (T_J3_charAt E i)) := ⟨Tm_J3_charAt, (fun h => nomatch h), fun _ => zInv.S (MS_J3_charAt.weak (fun as s K h => ⟨i, Tl_J3_charAt h, h⟩)) hd (by decide) (lw_S q589 q590 q164 q591) (by decide +kernel)⟩
def T_J2_charAt (E : zEnv) (i : Nat) : zT zσ := fun as s K => match as with
  | [.ref a, .int x] => i < zN ∧ (a = E.aK i ∧ vp_in x (zslenI i)) ∧ K (some (.int (zsch i x.toNatClampNeg))) s
  | _ => False
theorem TE_J2_charAt {E : zEnv} {i : Nat} {a : Nat} {x : Int32} {s : zσ} {K : Option Value → zσ → Prop} : T_J2_charAt E i [.ref a, .int x] s K = (i < zN ∧ (a = E.aK i ∧ vp_in x (zslenI i)) ∧ K (some (.int (zsch i x.toNatClampNeg))) s) := rfl
theorem Tm_J2_charAt {E : zEnv} {i : Nat} : zTm (T_J2_charAt E i) := by
  intro as s K K' h q
  unfold T_J2_charAt at *
  split at q <;> first | exact ⟨q.1, q.2.1, h _ _ q.2.2⟩ | exact q.elim
theorem Ta_J2_charAt {E : zEnv} {i : Nat} : zTa (T_J2_charAt E i) 2 := by
  intro as s K q
  unfold T_J2_charAt at q
  split at q
  · refine ⟨rfl, fun v hv => ?_⟩
    simp only [List.mem_cons, List.not_mem_nil, or_false] at hv
    rcases hv with rfl | rfl <;> first | rfl | exact q.2.1.1
  · exact q.elim
theorem Tl_J2_charAt {E : zEnv} {i : Nat} {as : List Value} {s : zσ} {K : Option Value → zσ → Prop} (q : T_J2_charAt E i as s K) : i < zN := by
  unfold T_J2_charAt at q
  split at q <;> first | exact q.1 | exact q.elim
abbrev G_J2_charAt (E : zEnv) (i : Nat) : zΓ zσ := [(492, true, 0, T_J2_isLatin1 E i), (495, false, 2, T_J3_charAt E i)]
theorem Z_J2_charAt_0 {σ : Type} {ret : Option FieldType} {hp : Instr → List Value → σ → (List Value → σ → Prop) → Prop} {K : Option Value → σ → Prop} {S : Nat → zL → List Value → σ → Prop} {L : zL} {s : σ} {st : List Value} : zone ret hp K cJ2_charAt S 0 L st s = (zlda L 0 fun v => S 1 L (v :: st) s) := zone_of dJ2_charAt_0 rfl
theorem Z_J2_charAt_1 {σ : Type} {ret : Option FieldType} {hp : Instr → List Value → σ → (List Value → σ → Prop) → Prop} {K : Option Value → σ → Prop} {S : Nat → zL → List Value → σ → Prop} {L : zL} {s : σ} {st : List Value} : zone ret hp K cJ2_charAt S 1 L st s = (hp (.invokevirtual 492) st s (fun st' s' => S 4 L st' s')) := zone_of dJ2_charAt_1 rfl
theorem Z_J2_charAt_4 {σ : Type} {ret : Option FieldType} {hp : Instr → List Value → σ → (List Value → σ → Prop) → Prop} {K : Option Value → σ → Prop} {S : Nat → zL → List Value → σ → Prop} {L : zL} {s : σ} {st : List Value} : zone ret hp K cJ2_charAt S 4 L st s = (zb1 st fun x r => if x = 0 then S 16 L r s else S 7 L r s) := zone_if_eq dJ2_charAt_4 (by decide)
theorem Z_J2_charAt_7 {σ : Type} {ret : Option FieldType} {hp : Instr → List Value → σ → (List Value → σ → Prop) → Prop} {K : Option Value → σ → Prop} {S : Nat → zL → List Value → σ → Prop} {L : zL} {s : σ} {st : List Value} : zone ret hp K cJ2_charAt S 7 L st s = (zlda L 0 fun v => S 8 L (v :: st) s) := zone_of dJ2_charAt_7 rfl
theorem Z_J2_charAt_8 {σ : Type} {ret : Option FieldType} {hp : Instr → List Value → σ → (List Value → σ → Prop) → Prop} {K : Option Value → σ → Prop} {S : Nat → zL → List Value → σ → Prop} {L : zL} {s : σ} {st : List Value} : zone ret hp K cJ2_charAt S 8 L st s = (hp (.getfield 9) st s (fun st' s' => S 11 L st' s')) := zone_of dJ2_charAt_8 rfl
theorem Z_J2_charAt_11 {σ : Type} {ret : Option FieldType} {hp : Instr → List Value → σ → (List Value → σ → Prop) → Prop} {K : Option Value → σ → Prop} {S : Nat → zL → List Value → σ → Prop} {L : zL} {s : σ} {st : List Value} : zone ret hp K cJ2_charAt S 11 L st s = (zldi L 1 fun v => S 12 L (v :: st) s) := zone_of dJ2_charAt_11 rfl
theorem Z_J2_charAt_12 {σ : Type} {ret : Option FieldType} {hp : Instr → List Value → σ → (List Value → σ → Prop) → Prop} {K : Option Value → σ → Prop} {S : Nat → zL → List Value → σ → Prop} {L : zL} {s : σ} {st : List Value} : zone ret hp K cJ2_charAt S 12 L st s = (hp (.invokestatic 495) st s (fun st' s' => S 15 L st' s')) := zone_of dJ2_charAt_12 rfl
theorem Z_J2_charAt_15 {σ : Type} {ret : Option FieldType} {hp : Instr → List Value → σ → (List Value → σ → Prop) → Prop} {K : Option Value → σ → Prop} {S : Nat → zL → List Value → σ → Prop} {L : zL} {s : σ} {v : Int32} : zone ret hp K cJ2_charAt S 15 L [.int v] s = (zretI ret v ∧ K (some (.int v)) s) := zone_of dJ2_charAt_15 rfl
theorem Z_J2_charAt_16 {σ : Type} {ret : Option FieldType} {hp : Instr → List Value → σ → (List Value → σ → Prop) → Prop} {K : Option Value → σ → Prop} {S : Nat → zL → List Value → σ → Prop} {L : zL} {s : σ} {st : List Value} : zone ret hp K cJ2_charAt S 16 L st s = (zlda L 0 fun v => S 17 L (v :: st) s) := zone_of dJ2_charAt_16 rfl
theorem Z_J2_charAt_17 {σ : Type} {ret : Option FieldType} {hp : Instr → List Value → σ → (List Value → σ → Prop) → Prop} {K : Option Value → σ → Prop} {S : Nat → zL → List Value → σ → Prop} {L : zL} {s : σ} {st : List Value} : zone ret hp K cJ2_charAt S 17 L st s = (hp (.getfield 9) st s (fun st' s' => S 20 L st' s')) := zone_of dJ2_charAt_17 rfl
theorem Z_J2_charAt_20 {σ : Type} {ret : Option FieldType} {hp : Instr → List Value → σ → (List Value → σ → Prop) → Prop} {K : Option Value → σ → Prop} {S : Nat → zL → List Value → σ → Prop} {L : zL} {s : σ} {st : List Value} : zone ret hp K cJ2_charAt S 20 L st s = (zldi L 1 fun v => S 21 L (v :: st) s) := zone_of dJ2_charAt_20 rfl
theorem Z_J2_charAt_21 {σ : Type} {ret : Option FieldType} {hp : Instr → List Value → σ → (List Value → σ → Prop) → Prop} {K : Option Value → σ → Prop} {S : Nat → zL → List Value → σ → Prop} {L : zL} {s : σ} {st : List Value} : zone ret hp K cJ2_charAt S 21 L st s = (hp (.invokestatic 498) st s (fun st' s' => S 24 L st' s')) := zone_of dJ2_charAt_21 rfl
theorem Z_J2_charAt_24 {σ : Type} {ret : Option FieldType} {hp : Instr → List Value → σ → (List Value → σ → Prop) → Prop} {K : Option Value → σ → Prop} {S : Nat → zL → List Value → σ → Prop} {L : zL} {s : σ} {v : Int32} : zone ret hp K cJ2_charAt S 24 L [.int v] s = (zretI ret v ∧ K (some (.int v)) s) := zone_of dJ2_charAt_24 rfl
theorem CC_J2_charAt_492 {E : zEnv} {i : Nat} {a0 : Value} {r : List Value} {s : zσ} {k : List Value → zσ → Prop} : zcallR (G_J2_charAt E i) 492 (a0 :: r) s k = (zfew r 8 = true ∧ T_J2_isLatin1 E i [a0] s (fun v s' => zpush v r (fun q => k q s'))) := zcR_n rfl rfl
theorem CC_J2_charAt_495 {E : zEnv} {i : Nat} {a0 a1 : Value} {r : List Value} {s : zσ} {k : List Value → zσ → Prop} : zcallS (G_J2_charAt E i) 495 (a1 :: a0 :: r) s k = (zfew r 8 = true ∧ T_J3_charAt E i [a0, a1] s (fun v s' => zpush v r (fun q => k q s'))) := zcS_n rfl rfl
set_option maxRecDepth 100000 in
set_option maxHeartbeats 4000000 in
theorem B_J2_charAt {E : zEnv} (i : Nat) (a : Nat) (x : Int32) (s : zσ) (K : Option Value → zσ → Prop) (hT : T_J2_charAt E i [.ref a, .int x] s K) (S : Nat → zL → List Value → zσ → Prop) (hm : zMono (zJhp E i [(9, 0), (15, 1)] [(38, 9), (1053, 10)] (G_J2_charAt E i))) (hc : zClosed (some .char) (zJhp E i [(9, 0), (15, 1)] [(38, 9), (1053, 10)] (G_J2_charAt E i)) K cJ2_charAt S) : S 0 [some (.ref a), some (.int x)] [] s := by
  obtain ⟨hi, ⟨rfl, hx⟩, hK⟩ := hT
  have hl := zslen_lt i hi
  obtain ⟨k, hk, rfl⟩ := vp_in_of hx (by omega)
  rw [nI_clamp (by omega)] at hK
  obtain ⟨c1, c2, c3⟩ := zsch_lt i hi k hk
  refine zgo hm hc (fun _ => false) 30 ?_
  simp (config := {decide := true, maxSteps := 1000000}) (disch := first | rfl | decide | omega) only [↓Z_J2_charAt_0, ↓Z_J2_charAt_1, ↓Z_J2_charAt_4, ↓Z_J2_charAt_7, ↓Z_J2_charAt_8, ↓Z_J2_charAt_11, ↓Z_J2_charAt_12, ↓Z_J2_charAt_15, ↓Z_J2_charAt_16, ↓Z_J2_charAt_17, ↓Z_J2_charAt_20, ↓Z_J2_charAt_21, ↓Z_J2_charAt_24, ↓reduceIte, ↓zrun_stop, ↓zrun_step, ↓zb2_i, ↓zb1_i, ↓zldi_0, ↓zldi_s, ↓zlda_0, ↓zlda_n, ↓zlda_s, ↓zsc_0, ↓zsc_s, ↓zsti_c, ↓zsta_r, ↓zsta_n, ↓zic_0, ↓zic_s, ↓zpush_s, ↓zpush_n, ↓zfew_0, ↓zfew_i, ↓zfew_r, ↓zfew_n, ↓zJhp_g0, ↓zJhp_g1, ↓zJhp_s38, ↓zJhp_s1053, ↓zJhp_al, ↓zJhp_bl, ↓zJhp_iS, ↓zJhp_iV, ↓CC_J2_charAt_492, ↓CC_J2_charAt_495, ↓TE_J2_isLatin1, ↓TE_J3_charAt, zcat_int, zcat_ref, zcat_null, zret_int, zret_b0, zret_b1, zret_b, Nat.reduceAdd, Nat.reduceSub, Nat.reduceLT, Nat.reduceEqDiff, Nat.reduceBEq, Nat.reduceBNe, true_and, and_true, if_true, if_false, Bool.false_eq_true, Bool.true_eq_false, Bool.or_self, Bool.or_false, Bool.or_true, Bool.false_or, Bool.true_or, zbi_e0, zbi_e1, eq_self, reduceCtorEq, Fin.isValue, zent, List.map_cons, List.map_nil, List.length_cons, List.length_nil, List.replicate, List.cons_append, List.nil_append, List.append_nil, Nat.zero_add, Nat.add_zero, zF_1, zF_2, zA_1, zA_2s, zA_2n, zB_1, zB_2s, zB_2n, not_true_eq_false, not_false_eq_true, Int32.reduceLT, Int32.reduceAdd, Int32.reduceSub, Int32.reduceMul, ne_eq, Int32.reduceToNatClampNeg, zlit_vp, nI_al, nI_la, nI_lm, nI_ml, nI_ltl, nI_llt, nI_eql, nI_lt2, nI_eq2, nI_vp, nI_cl, nI_add, pk_mul, nI_divl, nI_sub2, nI_lsub, nI_ne0l, nI_1, nI_pred, pk_m1, upd_s, upd_n, Nat.lt_irrefl, decide_eq_false_iff_not, decide_eq_true_eq, ite_not, ite_self, Nat.reducePow, Nat.reduceMul, hi, hx, c3, nI_cl]
  exact hK
theorem MS_J2_charAt {l : Launch} {E : zEnv} {b0 : Nat} : zMS l E b0 3 yJ2_charAt (ws_ yJ2_charAt cJ2_charAt 2 (some .char)) 0 0 (fun as s K => ∃ i, i < zN ∧ T_J2_charAt E i as s K) := by
  refine zJ_MS (T := T_J2_charAt E) (Γ := fun i => G_J2_charAt E i) (own := RJ2) (na := 2) (fl := [(9, 0), (15, 1)]) (st9 := [(38, 9), (1053, 10)]) rfl (by decide) (fun i => zJok_cons (IJ_J2_isLatin1 (by decide)) (zJok_cons (IJ_J3_charAt (by decide)) (zJok_nil))) zJt_J2 (fun i => Ta_J2_charAt) (by decide) ?_
  intro i hi as s K hT S hm hc
  have h0 := hT
  unfold T_J2_charAt at h0
  split at h0
  · exact B_J2_charAt i _ _ s K hT S hm hc
  · exact h0.elim
theorem Tr_J2_charAt {E : zEnv} {i : Nat} {as : List Value} {s : zσ} {K : Option Value → zσ → Prop} (q : T_J2_charAt E i as s K) : ∃ i as', i < zN ∧ as = .ref (E.aK i) :: as' := by
  unfold T_J2_charAt at q
  split at q
  · obtain ⟨h1, h2, -⟩ := q
    exact ⟨i, _, h1, by rw [h2.1]⟩
  · exact q.elim
theorem IO_X3_J2_charAt_119 {l : Launch} {E : zEnv} {b0 d0 i : Nat} (hd : 3 + 1 ≤ d0) : (zTm (T_J2_charAt E i)) ∧ ((true : Bool) = true → zInv l E b0 "ToolUnionModel" d0 (.invokevirtual 119) (1 + 1) none 0 0 (T_J2_charAt E i)) ∧ ((true : Bool) = false → zInv l E b0 "ToolUnionModel" d0 (.invokestatic 119) 1 none 0 0 (T_J2_charAt E i)) := ⟨Tm_J2_charAt, (fun _ => zInv.K (MS_J2_charAt.weak (fun as s K h => ⟨i, Tl_J2_charAt h, h⟩)) hd (by decide) (lw_V q1543 q582 q583 q163 q584) (by decide +kernel) (fun as s K h => Tr_J2_charAt h)), fun h => nomatch h⟩
theorem IO_X0_J2_charAt_254 {l : Launch} {E : zEnv} {b0 d0 i : Nat} (hd : 3 + 1 ≤ d0) : (zTm (T_J2_charAt E i)) ∧ ((true : Bool) = true → zInv l E b0 "ToolUnion" d0 (.invokevirtual 254) (1 + 1) none 0 0 (T_J2_charAt E i)) ∧ ((true : Bool) = false → zInv l E b0 "ToolUnion" d0 (.invokestatic 254) 1 none 0 0 (T_J2_charAt E i)) := ⟨Tm_J2_charAt, (fun _ => zInv.K (MS_J2_charAt.weak (fun as s K h => ⟨i, Tl_J2_charAt h, h⟩)) hd (by decide) (lw_V q581 q582 q583 q163 q584) (by decide +kernel) (fun as s K h => Tr_J2_charAt h)), fun h => nomatch h⟩
