/-! ToolUnionModel: tests: the three contracts by induction -/
theorem MSP_every {l : Launch} {E : zEnv} {b0 : Nat} {k_ : Nat} (h : zMS l E b0 (12 + 3 * k_ + 0) yX3_oneTest (ws_ yX3_oneTest cX3_oneTest 2 (some .boolean)) 0 0 (zlV E (TR_X3_oneTest k_))) : zMS l E b0 (12 + 3 * k_ + 1) yX3_every (ws_ yX3_every cX3_every 1 (some .boolean)) 0 0 (zlV E (TR_X3_every k_)) := by
  refine zM_MS (Γ := G_X3_every k_) rfl (zΓok_cons ⟨zx0_m, (fun _ => zInv.V h (by omega) (by decide) (lw_V q1620 q1622 qs82 q158 q1623) (by show _ ∧ _ ∧ _ ∧ _ = some 0; decide +kernel) rfl rfl), fun h => nomatch h⟩ (zΓok_cons (IM_X3_next0 (by omega)) (zΓok_cons (IM_X3_lay (by omega)) (zΓok_nil)))) (fun as s K h => ?_) ?_
  · have h1 := zx0_a as s K h
    exact ⟨by rw [h1.1]; decide, h1.2⟩
  · intro b as s K hT S hm hc
    have h0 := hT
    unfold TR_X3_every zx0 at h0
    split at h0
    · exact B_X3_every k_ b s K hT S hm hc
    · exact h0.elim
theorem MSP_any {l : Launch} {E : zEnv} {b0 : Nat} {k_ : Nat} (h : zMS l E b0 (12 + 3 * k_ + 1) yX3_every (ws_ yX3_every cX3_every 1 (some .boolean)) 0 0 (zlV E (TR_X3_every k_))) : zMS l E b0 (12 + 3 * k_ + 2) yX3_any (ws_ yX3_any cX3_any 1 (some .boolean)) 0 0 (zlV E (TR_X3_any k_)) := by
  refine zM_MS (Γ := G_X3_any k_) rfl (zΓok_cons ⟨zx0_m, (fun _ => zInv.V h (by omega) (by decide) (lw_V q1616 q1618 qs81 q158 q1619) (by show _ ∧ _ ∧ _ ∧ _ = some 0; decide +kernel) rfl rfl), fun h => nomatch h⟩ (zΓok_cons (IM_X3_next0 (by omega)) (zΓok_cons (IM_X3_lay (by omega)) (zΓok_nil)))) (fun as s K h => ?_) ?_
  · have h1 := zx0_a as s K h
    exact ⟨by rw [h1.1]; decide, h1.2⟩
  · intro b as s K hT S hm hc
    have h0 := hT
    unfold TR_X3_any zx0 at h0
    split at h0
    · exact B_X3_any k_ b s K hT S hm hc
    · exact h0.elim
theorem MSR_oneTest {l : Launch} {E : zEnv} {b0 : Nat} (k_ : Nat) : zMS l E b0 (12 + 3 * k_) yX3_oneTest (ws_ yX3_oneTest cX3_oneTest 2 (some .boolean)) 0 0 (zlV E (TR_X3_oneTest k_)) := by
  induction k_ with
  | zero =>
    refine zM_MS (Γ := []) rfl zΓok_nil (fun as s K h => ?_) ?_
    · have h1 := zx0_a as s K h
      exact ⟨by rw [h1.1]; decide, h1.2⟩
    · intro b as s K hT S hm hc
      have h0 := hT
      unfold TR_X3_oneTest zx0 at h0
      split at h0
      · exact absurd h0.1.2.1.1 (by omega)
      · exact h0.elim
  | succ k_ ih =>
    have ha := MSP_any (MSP_every (k_ := k_) ih)
    refine zM_MS (Γ := G_X3_oneTest k_) rfl (zΓok_cons (IM_X3_opens (by omega)) (zΓok_cons ⟨zx0_m, (fun _ => zInv.V ih (by omega) (by decide) (lw_V q1620 q1622 qs82 q158 q1623) (by show _ ∧ _ ∧ _ ∧ _ = some 0; decide +kernel) rfl rfl), fun h => nomatch h⟩ (zΓok_cons (IM_X3_lay (by omega)) (zΓok_cons ⟨zx0_m, (fun _ => zInv.V ha (by omega) (by decide) (lw_V q1612 q1614 qs80 q158 q1615) (by show _ ∧ _ ∧ _ ∧ _ = some 0; decide +kernel) rfl rfl), fun h => nomatch h⟩ (zΓok_cons (IM_X3_need (by omega)) (zΓok_cons (IM_X3_sumUp (by omega)) (zΓok_cons (IM_X3_bad (by omega)) (zΓok_cons (IM_X3_next0 (by omega)) (zΓok_nil))))))))) (fun as s K h => ?_) ?_
    · have h1 := zx0_a as s K h
      exact ⟨by rw [h1.1]; decide, h1.2⟩
    · intro b as s K hT S hm hc
      have h0 := hT
      unfold TR_X3_oneTest zx0 at h0
      split at h0
      · exact B_X3_oneTest k_ b s K hT S hm hc
      · exact h0.elim
theorem MS_X3_any {l : Launch} {E : zEnv} {b0 : Nat} : zMS l E b0 41 yX3_any (ws_ yX3_any cX3_any 1 (some .boolean)) 0 0 (zlV E T_X3_any) := MSP_any (MSP_every (MSR_oneTest 9))
theorem IM_X3_any {l : Launch} {E : zEnv} {b0 d0 : Nat} (hd : 41 + 1 ≤ d0) : zΓokq l E b0 d0 (250, true, 0, T_X3_any) := ⟨zx0_m, (fun _ => zInv.V MS_X3_any hd (by decide) (lw_V q1612 q1614 qs80 q158 q1615) (by decide +kernel) rfl rfl), fun h => nomatch h⟩
