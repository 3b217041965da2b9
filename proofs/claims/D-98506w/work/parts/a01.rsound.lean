/-! ===== the raw machine is sound ===== -/
def rinv (l : Launch) (E : zEnv) (b0 : Nat) (own : String) (d0 : Nat) (q : Nat × Bool × Nat × zT zσ) : Prop := zTm q.2.2.2 ∧ (q.2.1 = true → zInv l E b0 own d0 (.invokevirtual q.1) q.2.2.1 none 0 0 q.2.2.2) ∧ (q.2.1 = false → zInv l E b0 own d0 (.invokestatic q.1) q.2.2.1 none 0 0 q.2.2.2)
def rΓok (l : Launch) (E : zEnv) (b0 : Nat) (own : String) (d0 : Nat) (Γ : zΓ zσ) : Prop := ∀ q ∈ Γ, rinv l E b0 own d0 q
theorem rΓok_nil {l : Launch} {E : zEnv} {b0 d0 : Nat} {own : String} : rΓok l E b0 own d0 [] := fun _ h => nomatch h
theorem rΓok_cons {l : Launch} {E : zEnv} {b0 d0 : Nat} {own : String} {q : Nat × Bool × Nat × zT zσ} {t : zΓ zσ} (h : rinv l E b0 own d0 q) (ht : rΓok l E b0 own d0 t) : rΓok l E b0 own d0 (q :: t) := by
  intro x hx
  rcases List.mem_cons.mp hx with rfl | hx
  · exact h
  · exact ht x hx
theorem rbyte {v : Int32} : narrow .byte (.int v) = .int v.toInt8.toInt32 := rfl
section RSND
variable {p : Program} {l : Launch} {e : Env} {R : Room} {s0 : State} {m : MethodId} {args : Array Value} {below : List Frame} {meth : Method} {c : Code} {cc : ByteArray} {Q : State → Prop} {nL : Nat}
theorem zw_ldcw {H : Heap} {locs : List Loc} {cells slots pc : Nat} {ls : Array Slot} {rest : List Value} (hx : p.tables.exec = Jvm.exec) (hb : c.code = cc) {own tx : String} {index q : Nat} (hown : s0.vm.findClass own = some m.cls) (hZ : vk_R own index tx q s0) (hdg : decode cc pc = .ok (.ldc_w index, 3))
    (k : W p l e R s0 m args below meth c H locs cells slots Q (F0 m (pc + 3) ls (.ref q :: rest))) : W p l e R s0 m args below meth c H locs cells slots Q (F0 m pc ls rest) := by
  intro T hT X
  obtain ⟨t, a1, b1⟩ := k T hT X
  exact ⟨t, X.ldcStringW hx hown (text := tx) (a := q) hZ.1 hZ.2 (g := F0 m pc ls rest) rfl (by rw [hb]; exact hdg) t a1, b1⟩
set_option maxHeartbeats 4000000 in
theorem r_hp {E : zEnv} {b0 own d0 : Nat} {T : rTb} {Γ : zΓ zσ} (hT : rTok own T) (hC : zCtx E b0 (rC own) d0 cc nL p R s0 m args c) (hΓ : rΓok l E b0 (rC own) d0 Γ) :
    ∀ i len pc L st s, decode cc pc = .ok (i, len) → zlen i len = true → rhp E T false Γ i st s (fun st' s' => zS p l e R s0 m args below meth c Q nL (zIRp E b0 s0) (pc + len) L st' s') → zS p l e R s0 m args below meth c Q nL (zIRp E b0 s0) pc L st s := by
  intro i len pc L st s hd hlen h
  have hC' := hC
  obtain ⟨hx, hb, hml, hown, hts, hW, hfr, hlo⟩ := hC
  have hK := hW.1
  have one : ∀ {n}, (n == 1) = true → n = 1 := fun h => by simpa using h
  have two : ∀ {n}, (n == 2) = true → n = 2 := fun h => by simpa using h
  have three : ∀ {n}, (n == 3) = true → n = 3 := fun h => by simpa using h
  cases i <;> dsimp only [rhp] at h <;> intro hn H locs k z ls hL ⟨hrep, hS, hk, hz⟩
  case getfield x =>
    cases three hlen
    split at h
    case h_2 => exact h.elim
    rename_i _ q a r hj
    obtain ⟨c0, fs, hg, rfl, v, hv, h⟩ := robj_some h
    obtain ⟨w1, w2, w3, w4⟩ := hT.1 _ (zlk_mem hj)
    dsimp only at w1 w2 w3 w4
    obtain ⟨e1, e2, e3, e4⟩ := r_cl w1
    cases hb : q.2.2 with
    | false => exact zw_get (C := rC q.1) (T := rT q.1) (N := rN q.1) hx (by assumption) hts e2 hown hK hrep hg e1 q.2.1 w2 (hts _ (w3 hb)) (fun x hx => hx) hv hd (h hn H locs k z ls hL ⟨hrep, hS, hk, hz⟩)
    | true =>
      obtain ⟨host, w4⟩ := w4 hb
      exact zw_getN (C := rC q.1) (T := rT q.1) (N := rN q.1) hx (by assumption) hts e2 hown hK hrep hg e1 q.2.1 w2 (hW.2.2.2.2.1 _ w4) (fun x hx => hx) hv hd (h hn H locs k z ls hL ⟨hrep, hS, hk, hz⟩)
  case putfield x =>
    cases three hlen
    split at h
    case h_2 => exact h.elim
    rename_i _ q v a r hj
    obtain ⟨hq, h⟩ := h
    obtain ⟨c0, fs, hg, rfl, hl, hnar, hfit, hfin, h⟩ := robj_some h
    obtain ⟨w1, w2, w3, w4⟩ := hT.1 _ (zlk_mem hj)
    dsimp only at w1 w2 w3 w4
    obtain ⟨e1, e2, e3, e4⟩ := r_cl w1
    refine zw_put (C := rC q.1) (T := rT q.1) (N := rN q.1) hx hb hts e2 (rty q.1) e3 e4 hown hK hrep hS hg e1 q.2.1 w2 (hts _ (w3 hq)) (fun x hx => hx) ?_ hnar hfit hl hd (fun H1 locs1 hrep1 hS1 => h hn H1 locs1 k z ls hL ⟨hrep1, hS1, hk, hz⟩)
    cases hf : (rT q.1 q.2.1).2.2.2 with
    | false => rfl
    | true => exact absurd (hfin hf) (by decide)
  case getstatic x =>
    cases three hlen
    split at h
    case h_2 => exact h.elim
    rename_i _ j hj
    obtain ⟨C, nm, d, w1, w2⟩ := hT.2.1 _ (zlk_mem hj)
    exact zw_gets hx hb hW ⟨_, w1, rfl⟩ hS hown (hts _ w2) (fun x hx => hx) hd (h hn H locs k z ls hL ⟨hrep, hS, hk, hz⟩)
  case ldc x =>
    cases two hlen
    split at h
    · rename_i _ v hv
      exact lv_ldc hx hb hown (hts _ (hT.2.2.1 _ (zlk_mem hv))) hd (h hn H locs k z ls hL ⟨hrep, hS, hk, hz⟩)
    · split at h
      case h_2 => exact h.elim
      rename_i _ j hj
      obtain ⟨tx, w⟩ := hT.2.2.2 _ (zlk_mem hj)
      exact va_ldcS hx hb hown (hW.2.2.1 _ w) hd (h hn H locs k z ls hL ⟨hrep, hS, hk, hz⟩)
  case ldc_w x =>
    cases three hlen
    split at h
    · rename_i _ v hv
      exact lv_ldcw hx hb hown (hts _ (hT.2.2.1 _ (zlk_mem hv))) hd (h hn H locs k z ls hL ⟨hrep, hS, hk, hz⟩)
    · split at h
      case h_2 => exact h.elim
      rename_i _ j hj
      obtain ⟨tx, w⟩ := hT.2.2.2 _ (zlk_mem hj)
      exact zw_ldcw hx hb hown (hW.2.2.1 _ w) hd (h hn H locs k z ls hL ⟨hrep, hS, hk, hz⟩)
  case iaload =>
    cases one hlen
    split at h
    case h_2 => exact h.elim
    obtain ⟨N, f, hg, h1, h⟩ := rints_some h
    exact zw_iald hx hb hK hrep hg h1 hd (h hn H locs k z ls hL ⟨hrep, hS, hk, hz⟩)
  case baload =>
    cases one hlen
    split at h
    case h_2 => exact h.elim
    obtain ⟨t, ht, h⟩ := h
    rcases ht with rfl | rfl <;> obtain ⟨N, f, hg, h1, h⟩ := rints_some h
    · exact zw_zald hx hb hK hrep hg h1 hd (h hn H locs k z ls hL ⟨hrep, hS, hk, hz⟩)
    · exact zw_bald hx hb hK hrep hg h1 hd (h hn H locs k z ls hL ⟨hrep, hS, hk, hz⟩)
  case iastore =>
    cases one hlen
    split at h
    case h_2 => exact h.elim
    obtain ⟨N, f, hg, h1, h⟩ := rints_some h
    exact zw_iast hx hb hK hrep hS hg h1 hd (fun H1 locs1 hrep1 hS1 => h hn H1 locs1 k z ls hL ⟨hrep1, hS1, hk, hz⟩)
  case bastore =>
    cases one hlen
    split at h
    case h_2 => exact h.elim
    rcases h with h | h
    · obtain ⟨N, f, hg, h1, h2, h⟩ := rints_some h
      exact zw_zast hx hb hK hrep hS hg (znar_b h2).1 h1 hd (fun H1 locs1 hrep1 hS1 => h hn H1 locs1 k z ls hL ⟨hrep1, hS1, hk, hz⟩)
    · obtain ⟨N, f, hg, h1, h⟩ := rints_some h
      exact zw_bast hx hb hK hrep hS hg rbyte h1 hd (fun H1 locs1 hrep1 hS1 => h hn H1 locs1 k z ls hL ⟨hrep1, hS1, hk, hz⟩)
  case aaload =>
    cases one hlen
    split at h
    case h_2 => exact h.elim
    obtain ⟨t, N, f, t3, t10, hg, h1, h⟩ := rrefs_some h
    have ht : ∃ ty, (ztys E)[t]? = some (E.dA t, ty) ∧ ((∃ C, ty = .object C) ∨ ∃ u, ty = .array u) := by
      rcases (by omega : t = 3 ∨ t = 4 ∨ t = 5 ∨ t = 6 ∨ t = 7 ∨ t = 8 ∨ t = 9) with rfl | rfl | rfl | rfl | rfl | rfl | rfl
      · exact ⟨_, rfl, Or.inl ⟨_, rfl⟩⟩
      · exact ⟨_, rfl, Or.inl ⟨_, rfl⟩⟩
      · exact ⟨_, rfl, Or.inl ⟨_, rfl⟩⟩
      · exact ⟨_, rfl, Or.inl ⟨_, rfl⟩⟩
      · exact ⟨_, rfl, Or.inl ⟨_, rfl⟩⟩
      · exact ⟨_, rfl, Or.inr ⟨_, rfl⟩⟩
      · exact ⟨_, rfl, Or.inr ⟨_, rfl⟩⟩
    obtain ⟨ty, ht, hty⟩ := ht
    exact zw_aald hx hb hK hrep hg ht hty h1 hd (h hn H locs k z ls hL ⟨hrep, hS, hk, hz⟩)
  case arraylength =>
    cases one hlen
    split at h
    case h_2 => exact h.elim
    obtain ⟨t, x, t10, hg, h⟩ := rlen_some h
    have ht : ∃ ty, (ztys E)[t]? = some (E.dA t, ty) := by
      rcases (by omega : t = 0 ∨ t = 1 ∨ t = 2 ∨ t = 3 ∨ t = 4 ∨ t = 5 ∨ t = 6 ∨ t = 7 ∨ t = 8 ∨ t = 9) with rfl | rfl | rfl | rfl | rfl | rfl | rfl | rfl | rfl | rfl <;> exact ⟨_, rfl⟩
    obtain ⟨ty, ht⟩ := ht
    exact zw_alen hx hb hK hrep hg ht hd (h hn H locs k z ls hL ⟨hrep, hS, hk, hz⟩)
  case invokestatic x =>
    cases three hlen
    unfold rcall at h
    split at h
    case h_2 => exact h.elim
    rename_i q hq
    obtain ⟨hqb, h⟩ := h
    split at h
    case h_2 => exact h.elim
    rename_i r hr
    obtain ⟨hf, h⟩ := h
    obtain ⟨e1, e2⟩ := zpop_eq _ _ _ _ hr
    have e1 : st = r.1.reverse ++ r.2 := by simpa using e1
    subst hk; subst hz
    rw [e1]
    refine (hΓ _ (zlk_mem hq)).2.2 hqb p e _ s0 m _ below meth c cc nL _ H locs 0 0 ls pc r.1 r.2 s hC' (hL.1.1.trans hn) hd hrep hS (by rw [e2]; rfl) (zfew_sum _ _ hf) (Nat.zero_le _) (Nat.zero_le _) (fun _ q => by cases q) ?_
    refine (hΓ _ (zlk_mem hq)).1 _ _ _ _ (fun v m' hm H' locs' hrep' hS' => ?_) h
    exact hm hn H' locs' 0 0 ls hL ⟨hrep', hS', rfl, rfl⟩
  case invokevirtual x =>
    cases three hlen
    unfold rcall at h
    split at h
    case h_2 => exact h.elim
    rename_i q hq
    obtain ⟨hqb, h⟩ := h
    split at h
    case h_2 => exact h.elim
    rename_i r hr
    obtain ⟨hf, h⟩ := h
    obtain ⟨e1, e2⟩ := zpop_eq _ _ _ _ hr
    have e1 : st = r.1.reverse ++ r.2 := by simpa using e1
    subst hk; subst hz
    rw [e1]
    refine (hΓ _ (zlk_mem hq)).2.1 hqb p e _ s0 m _ below meth c cc nL _ H locs 0 0 ls pc r.1 r.2 s hC' (hL.1.1.trans hn) hd hrep hS (by rw [e2]; rfl) (zfew_sum _ _ hf) (Nat.zero_le _) (Nat.zero_le _) (fun _ q => by cases q) ?_
    refine (hΓ _ (zlk_mem hq)).1 _ _ _ _ (fun v m' hm H' locs' hrep' hS' => ?_) h
    exact hm hn H' locs' 0 0 ls hL ⟨hrep', hS', rfl, rfl⟩
  all_goals exact h.elim
end RSND
