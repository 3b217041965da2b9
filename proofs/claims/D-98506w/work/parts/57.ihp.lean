/-! ToolUnionModel: the machine with calls of is -/
def zMhpI (E : zEnv) (b : Nat) (Γ : zΓ zM) (ins : Instr) (st : List Value) (m : zM) (k : List Value → zM → Prop) : Prop := match ins with
  | .invokevirtual x => if x = 125 then (match st with
      | .ref a :: .ref q :: r => q = b ∧ (zid E a < 53 ∧ yisok m) ∧ zfew r 8 = true ∧ k (.int (zbi (yis m (zid E a))) :: r) m
      | _ => False)
    else zMhp E b Γ (.invokevirtual x) st m k
  | ins => zMhp E b Γ ins st m k
section ZMI
variable {E : zEnv} {b a q x : Nat} {Γ : zΓ zM} {r st : List Value} {m : zM} {k : List Value → zM → Prop}
theorem zMhpI_is : zMhpI E b Γ (.invokevirtual 125) (.ref a :: .ref q :: r) m k = (q = b ∧ (zid E a < 53 ∧ yisok m) ∧ zfew r 8 = true ∧ k (.int (zbi (yis m (zid E a))) :: r) m) := rfl
theorem zMhpI_v (h : ¬ x = 125) : zMhpI E b Γ (.invokevirtual x) st m k = zMhp E b Γ (.invokevirtual x) st m k := if_neg h
theorem zMhpI_g : zMhpI E b Γ (.getfield x) st m k = zMhp E b Γ (.getfield x) st m k := rfl
theorem zMhpI_p : zMhpI E b Γ (.putfield x) st m k = zMhp E b Γ (.putfield x) st m k := rfl
theorem zMhpI_l : zMhpI E b Γ .iaload st m k = zMhp E b Γ .iaload st m k := rfl
theorem zMhpI_s : zMhpI E b Γ .iastore st m k = zMhp E b Γ .iastore st m k := rfl
theorem zMhpI_c : zMhpI E b Γ (.ldc x) st m k = zMhp E b Γ (.ldc x) st m k := rfl
theorem zMhpI_t : zMhpI E b Γ (.invokestatic x) st m k = zMhp E b Γ (.invokestatic x) st m k := rfl
end ZMI
theorem zΓm {l : Launch} {E : zEnv} {b0 d0 : Nat} {Γ : zΓ zM} (h : zΓok l E b0 d0 Γ) : ∀ q ∈ Γ, zTm q.2.2.2 := fun q hq => (h q hq).1
theorem zMhpI_mono {E : zEnv} {b : Nat} {Γ : zΓ zM} (hΓ : ∀ q ∈ Γ, zTm q.2.2.2) : zMono (zMhpI E b Γ) := by
  intro ins st s k k' hk h
  have h0 := zMhp_mono (E := E) (b := b) hΓ
  cases ins
  case invokevirtual x =>
    dsimp only [zMhpI] at h ⊢
    split
    · rename_i c
      rw [if_pos c] at h
      split at h <;> first | exact ⟨h.1, h.2.1, h.2.2.1, hk _ _ h.2.2.2⟩ | exact h
    · rename_i c
      rw [if_neg c] at h
      exact h0 _ st s k k' hk h
  all_goals (dsimp only [zMhpI] at h ⊢; exact h0 _ st s k k' hk h)
section ZMI2
variable {p : Program} {l : Launch} {e : Env} {R : Room} {s0 : State} {m : MethodId} {args : Array Value} {below : List Frame} {meth : Method} {c : Code} {cc : ByteArray} {Q : State → Prop} {nL : Nat}
theorem zMI_hp {E : zEnv} {b0 b n d0 : Nat} {g0 : zG} {Γ : zΓ zM} (hd5 : 5 ≤ d0) (hC : zCtx E b0 RX3 d0 cc nL p R s0 m args c) (hΓ : zΓok l E b0 d0 Γ) :
    ∀ i len pc L st s, decode cc pc = .ok (i, len) → zlen i len = true → zMhpI E b Γ i st s (fun st' s' => zS p l e R s0 m args below meth c Q nL (zMRp E b0 b n g0 s0) (pc + len) L st' s') → zS p l e R s0 m args below meth c Q nL (zMRp E b0 b n g0 s0) pc L st s := by
  intro i len pc L st s hd hlen h
  have h0 := zM_hp (p := p) (l := l) (e := e) (R := R) (below := below) (meth := meth) (Q := Q) (b := b) (n := n) (g0 := g0) hC hΓ i len pc L st s hd hlen
  cases i
  case invokevirtual x =>
    dsimp only [zMhpI] at h
    split at h
    · rename_i c9
      subst c9
      have e3 : len = 3 := by simpa [zlen] using hlen
      subst e3
      split at h
      case h_2 => exact h.elim
      rename_i a q r
      obtain ⟨rfl, h1, h2, h3⟩ := h
      intro hn H locs k z ls hL ⟨hrep, hS, hk, hz⟩
      subst hk; subst hz
      refine IM_X3_is (l := l) (E := E) (b0 := b0) hd5 p e _ s0 m _ below meth c cc nL _ H locs 0 0 ls pc [.ref q, .ref a] r (n, zMG E q s g0) hC (hL.1.1.trans hn) hd hrep hS rfl (zfew_sum _ _ h2) (Nat.zero_le _) (Nat.zero_le _) (fun ci hq => by
        cases hq
        exact ⟨q, zMobj q s, rfl, by have := zMG_at (E := E) (b := q) (m := s) (g := g0) (h := 0) (by omega); rw [Nat.add_zero] at this; exact this⟩) ⟨q, s, [.ref a], rfl, zMG_idem.symm, ?_⟩
      refine ⟨h1, ?_⟩
      intro H' locs' hrep' hS'
      rw [zMG_idem] at hrep'
      exact h3 hn H' locs' 0 0 ls hL ⟨hrep', hS', rfl, rfl⟩
    · exact h0 h
  all_goals (dsimp only [zMhpI] at h; exact h0 h)
end ZMI2
