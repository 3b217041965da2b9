/-! ToolUnionModel: is: calls of String -/
/-- the String's number at an address -/
def zid (E : zEnv) (a : Nat) : Nat := yfst (fun i => decide (E.aK i = a)) 53
theorem zid_k {E : zEnv} {a : Nat} (h : zid E a < 53) : E.aK (zid E a) = a := by
  have := yfst_at (Q := fun i => decide (E.aK i = a)) (n := 53) h
  exact of_decide_eq_true this
/-- Strings of different letters are at different places -/
def zApart (E : zEnv) : Prop := ∀ i j, i < 53 → j < 53 → E.aK i = E.aK j → zslenI i = zslenI j ∧ ∀ k, k < zslenI i → zsch i k = zsch j k
theorem zapart_of {E : zEnv} {b0 : Nat} {U : State} (h : zW E b0 U) : zApart E := by
  intro i j hi hj e
  obtain ⟨o1, -, v1, t1⟩ := h.2.1 i hi
  obtain ⟨o2, -, v2, t2⟩ := h.2.1 j hj
  rw [e] at v1
  have ev : E.aV i = E.aV j := by
    obtain ⟨cf, k, x, f, cell, a1, a2, a3, a4, a5, a6⟩ := v1
    obtain ⟨cf', k', x', f', cell', b1, b2, b3, b4, b5, b6⟩ := v2
    rw [a1] at b1
    cases b1
    rw [a3] at b3
    cases b3
    rw [a5] at b5
    exact Value.ref.inj (Option.some.inj b5)
  rw [ev] at t1
  obtain ⟨cell, a1, a2, a3, a4, a5, a6, a7⟩ := t1
  obtain ⟨cell', b1, b2, b3, b4, b5, b6, b7⟩ := t2
  rw [a1] at b1
  cases b1
  have hli : zslen.getD i 0 ≤ 10 := zslen_lt i hi
  have hlj : zslen.getD j 0 ≤ 10 := zslen_lt j hj
  have hl : zslen.getD i 0 = zslen.getD j 0 := by
    rw [a5] at b5
    exact (nI_eq (by omega) (by omega)).mp b5
  refine ⟨hl, fun k hk => ?_⟩
  have h1 := a6 k hk
  have h2 := b6 k (by rw [← hl]; exact hk)
  rw [h1] at h2
  exact Value.int.inj (Option.some.inj h2)
theorem zid_dec : ∀ i, i < 26 → ∀ j, j < i → zslenI j = zslenI i → ¬ ∀ k, k < zslenI j → zsch j k = zsch i k := by decide +kernel
/-- a String of the model's own is known by its place -/
theorem zid_own {E : zEnv} (h : zApart E) : ∀ i, i < 26 → zid E (E.aK i) = i := by
  intro i hi
  have hle : zid E (E.aK i) ≤ i := yfst_of (Q := fun j => decide (E.aK j = E.aK i)) (n := 53) (by omega) (decide_eq_true rfl)
  by_cases c : zid E (E.aK i) = i
  · exact c
  · have hk := zid_k (E := E) (a := E.aK i) (by omega)
    obtain ⟨h1, h2⟩ := h _ i (by omega) (by omega) hk
    exact absurd h2 (zid_dec i hi _ (by omega) h1)
def zMhpJ (E : zEnv) (b : Nat) (Γ : zΓ zM) (ins : Instr) (st : List Value) (m : zM) (k : List Value → zM → Prop) : Prop := match ins with
  | .invokevirtual x => if x = 113 then (match st with
      | .ref a :: r => zid E a < 53 ∧ zfew r 8 = true ∧ k (.int (nI (zslenI (zid E a))) :: r) m
      | _ => False)
    else if x = 119 then (match st with
      | .int j :: .ref a :: r => zid E a < 53 ∧ vp_in j (zslenI (zid E a)) ∧ zfew r 8 = true ∧ k (.int (zsch (zid E a) j.toNatClampNeg) :: r) m
      | _ => False)
    else False
  | ins => zMhp E b Γ ins st m k
theorem zMhpJ_l {E : zEnv} {b a : Nat} {Γ : zΓ zM} {r : List Value} {m : zM} {k : List Value → zM → Prop} : zMhpJ E b Γ (.invokevirtual 113) (.ref a :: r) m k = (zid E a < 53 ∧ zfew r 8 = true ∧ k (.int (nI (zslenI (zid E a))) :: r) m) := rfl
theorem zMhpJ_c {E : zEnv} {b a : Nat} {Γ : zΓ zM} {j : Int32} {r : List Value} {m : zM} {k : List Value → zM → Prop} : zMhpJ E b Γ (.invokevirtual 119) (.int j :: .ref a :: r) m k = (zid E a < 53 ∧ vp_in j (zslenI (zid E a)) ∧ zfew r 8 = true ∧ k (.int (zsch (zid E a) j.toNatClampNeg) :: r) m) := rfl
theorem zMhpJ_g {E : zEnv} {b x : Nat} {Γ : zΓ zM} {st : List Value} {m : zM} {k : List Value → zM → Prop} : zMhpJ E b Γ (.getfield x) st m k = zMhp E b Γ (.getfield x) st m k := rfl
theorem zMhpJ_i {E : zEnv} {b : Nat} {Γ : zΓ zM} {st : List Value} {m : zM} {k : List Value → zM → Prop} : zMhpJ E b Γ .iaload st m k = zMhp E b Γ .iaload st m k := rfl
theorem zMhpJ_mono {E : zEnv} {b : Nat} : zMono (zMhpJ E b []) := by
  intro ins st s k k' hk h
  have h0 := zMhp_mono (E := E) (b := b) (Γ := []) (fun q hq => by cases hq)
  cases ins
  case invokevirtual x =>
    dsimp only [zMhpJ] at h ⊢
    split
    · rename_i c
      rw [if_pos c] at h
      split at h <;> first | exact ⟨h.1, h.2.1, hk _ _ h.2.2⟩ | exact h
    · rename_i c
      rw [if_neg c] at h
      split
      · rename_i c2
        rw [if_pos c2] at h
        split at h <;> first | exact ⟨h.1, h.2.1, h.2.2.1, hk _ _ h.2.2.2⟩ | exact h
      · rename_i c2
        rw [if_neg c2] at h
        exact h
  all_goals (dsimp only [zMhpJ] at h ⊢; exact h0 _ st s k k' hk h)
section ZMJ
variable {p : Program} {l : Launch} {e : Env} {R : Room} {s0 : State} {m : MethodId} {args : Array Value} {below : List Frame} {meth : Method} {c : Code} {cc : ByteArray} {Q : State → Prop} {nL : Nat}
theorem zcall_M {E : zEnv} {b0 b n0 d0 : Nat} {g0 : zG} {ins : Instr} {n : Nat} {T : zT zσ} (hI : zInv l E b0 RX3 d0 ins n none 0 0 T) (hTm : zTm T) (hC : zCtx E b0 RX3 d0 cc nL p R s0 m args c)
    {pc : Nat} {L : zL} {as r : List Value} {q : zM} (hd : decode cc pc = .ok (ins, 3)) (hn9 : as.length = n) (hf : zfew r 8 = true)
    (h : T as (n0, zMG E b q g0) (fun v s' => s' = (n0, zMG E b q g0) ∧ zS p l e R s0 m args below meth c Q nL (zMRp E b0 b n0 g0 s0) (pc + 3) L (v.toList ++ r) q)) : zS p l e R s0 m args below meth c Q nL (zMRp E b0 b n0 g0 s0) pc L (as.reverse ++ r) q := by
  intro hn H locs k z ls hL ⟨hrep, hS, hk, hz⟩
  subst hk; subst hz
  refine hI p e _ s0 m _ below meth c cc nL _ H locs 0 0 ls pc as r (n0, zMG E b q g0) hC (hL.1.1.trans hn) hd hrep hS hn9 (zfew_sum _ _ hf) (Nat.zero_le _) (Nat.zero_le _) (fun _ q => by cases q) ?_
  refine hTm _ _ _ _ (fun v m' hm H' locs' hrep' hS' => ?_) h
  obtain ⟨rfl, hm⟩ := hm
  exact hm hn H' locs' 0 0 ls hL ⟨hrep', hS', rfl, rfl⟩
theorem zMJ_hp {E : zEnv} {b0 b n d0 : Nat} {g0 : zG} (hd5 : 4 ≤ d0) (hC : zCtx E b0 RX3 d0 cc nL p R s0 m args c) :
    ∀ i len pc L st s, decode cc pc = .ok (i, len) → zlen i len = true → zMhpJ E b [] i st s (fun st' s' => zS p l e R s0 m args below meth c Q nL (zMRp E b0 b n g0 s0) (pc + len) L st' s') → zS p l e R s0 m args below meth c Q nL (zMRp E b0 b n g0 s0) pc L st s := by
  intro i len pc L st s hd hlen h
  have h0 := zM_hp (p := p) (l := l) (e := e) (R := R) (below := below) (meth := meth) (Q := Q) (b := b) (n := n) (g0 := g0) (Γ := []) hC (fun q hq => by cases hq) i len pc L st s hd hlen
  cases i
  case invokevirtual x =>
    dsimp only [zMhpJ] at h
    have e3 : len = 3 := by simpa [zlen] using hlen
    subst e3
    split at h
    · rename_i c
      subst c
      split at h
      case h_2 => exact h.elim
      rename_i a r
      obtain ⟨h1, h2, h3⟩ := h
      exact zcall_M ((IO_X3_J2_length_113 (l := l) (E := E) (b0 := b0) (d0 := d0) (i := zid E a) (by omega)).2.1 rfl) Tm_J2_length hC (as := [.ref a]) hd rfl h2 (by rw [TE_J2_length]; exact ⟨h1, (zid_k h1).symm, rfl, h3⟩)
    · split at h
      · rename_i c c2
        subst c2
        split at h
        case h_2 => exact h.elim
        rename_i j a r
        obtain ⟨h1, h2, h3, h4⟩ := h
        exact zcall_M ((IO_X3_J2_charAt_119 (l := l) (E := E) (b0 := b0) (d0 := d0) (i := zid E a) (by omega)).2.1 rfl) Tm_J2_charAt hC (as := [.ref a, .int j]) hd rfl h3 (by rw [TE_J2_charAt]; exact ⟨h1, ⟨(zid_k h1).symm, h2⟩, rfl, h4⟩)
      · exact h.elim
  all_goals (dsimp only [zMhpJ] at h; exact h0 h)
set_option maxHeartbeats 4000000 in
/-- as zM_MS, over any machine that is sound; what the world says of Strings' places is at hand -/
theorem zMX_MS {l : Launch} {E : zEnv} {b0 d nL : Nat} {y : MethodName} {cc : ByteArray} {ret : Option FieldType} {T : zT zM} {hp : Nat → Instr → List Value → zM → (List Value → zM → Prop) → Prop} (hy : y.cls = RX3)
    (hhp : ∀ (p : Program) (e : Env) (R : Room) (s0 : State) (m : MethodId) (args : Array Value) (below : List Frame) (meth : Method) (c : Code) (Q : State → Prop) (b n : Nat) (g0 : zG), zCtx E b0 RX3 d cc nL p R s0 m args c → ∀ i len pc L st s, decode cc pc = .ok (i, len) → zlen i len = true → hp b i st s (fun st' s' => zS p l e R s0 m args below meth c Q nL (zMRp E b0 b n g0 s0) (pc + len) L st' s') → zS p l e R s0 m args below meth c Q nL (zMRp E b0 b n g0 s0) pc L st s)
    (hmo : ∀ b, zMono (hp b))
    (hargs : ∀ (as : List Value) (s : zM) (K : Option Value → zM → Prop), T as s K → as.length + 1 ≤ nL ∧ ∀ v ∈ as, v.category = 1)
    (hbody : zApart E → ∀ (b : Nat) (as : List Value) (s : zM) (K : Option Value → zM → Prop), T as s K → ∀ S : Nat → zL → List Value → zM → Prop, zMono (hp b) → zClosed ret (hp b) K cc S → S 0 (zent (.ref b :: as) nL) [] s) :
    zMS l E b0 d y (ws_ y cc nL ret) 0 0 (zlV E T) := by
  intro args s K ⟨b, q, as, he, hg, hT⟩
  subst he
  obtain ⟨ha1, ha2⟩ := hargs _ _ _ hT
  refine Met.ofW (cc := cc) (maxL := nL) (ret := ret) (by rw [hy]; decide) rfl ?_
  intro p e s0 m args below meth c s₁ B hml hv
  obtain ⟨rfl, hW, hrep⟩ := hv
  have hx := B.exec
  have hb := B.bytes
  have hr := B.returns
  have hts := atoms_spec (ws := ws_ y cc nL ret) B.pre
  have hts : ∀ w ∈ lw_all, w.before _ s0 = true := fun w h => hts w (List.mem_cons_of_mem _ h)
  have hown : s0.vm.findClass RX3 = some m.cls := by rw [← hy]; exact findClass_of_methodNamed B.named
  have hlocks := B.notSynchronized
  have hC : zCtx E b0 RX3 d cc nL p (headSpec (ws_ y cc nL ret) (zrm d 0 0)).room s0 m ((Value.ref b :: as).toArray) c := ⟨hx, hb, hml, hown, hts, hW, Nat.le_refl _, Nat.le_refl _⟩
  have hcat : ∀ v ∈ Value.ref b :: as, v.category = 1 := by
    intro v hv
    rcases List.mem_cons.mp hv with rfl | hv
    · rfl
    · exact ha2 v hv
  rw [lg_entry_eq]
  have hL := zent_Lr (as := .ref b :: as) (nL := nL) ha1 hcat
  refine hbody (zapart_of hW) b as q _ hT (zS p l e _ s0 m _ below meth c _ nL (zMRp E b0 b s.1 s.2 s0)) (hmo b) (zclosed (K := fun v m' => K v (s.1, zMG E b m' s.2)) (Qc := zQc E b0 K) (mc := 0) (ms := 0) (free := zfix b0) hx hb hr hlocks ?_ (fun _ _ _ h => h) (hhp p e _ s0 m _ below meth c _ b s.1 s.2 hC)) (zent_len ha1) s0.heap [] 0 0 _ hL ⟨by rw [← hg]; exact hrep, va_S.rf, rfl, rfl⟩
  intro v m' H locs k z ⟨hrep', hS', hk, hz⟩ hK
  exact ⟨⟨by omega, by omega⟩, hS'.2.2, fun t ht hWt => ⟨v, _, rfl, hK, by rw [ht]; exact hrep', hS'.F ht⟩⟩
end ZMJ
/-- a token's place -/
def yisok (s : zM) : Prop := ∃ p n : Nat, s.1 19 = nI p ∧ s.1 17 = nI (p + n) ∧ p + n ≤ 400
def yisw (f : Nat → Int32) (p n i : Nat) : Bool := decide (n = zslenI i) && yall (fun k => decide (f (p + k) = zsch i k)) (zslenI i)
/-- whether the token is spelt as String i -/
def yis (s : zM) (i : Nat) : Bool := yisw (s.2 8) (s.1 19).toNatClampNeg ((s.1 17).toNatClampNeg - (s.1 19).toNatClampNeg) i
def T_X3_is (E : zEnv) : zT zM := fun as s K => match as with
  | [.ref a] => (zid E a < 53 ∧ yisok s) ∧ K (some (.int (zbi (yis s (zid E a))))) s
  | _ => False
theorem Tm_X3_is {E : zEnv} : zTm (T_X3_is E) := by
  intro as s K K' h q
  unfold T_X3_is at *
  split at q <;> first | exact ⟨q.1, h _ _ q.2⟩ | exact q.elim

theorem Z_X3_is_0 {σ : Type} {ret : Option FieldType} {hp : Instr → List Value → σ → (List Value → σ → Prop) → Prop} {K : Option Value → σ → Prop} {S : Nat → zL → List Value → σ → Prop} {L : zL} {s : σ} {st : List Value} : zone ret hp K cX3_is S 0 L st s = (zlda L 0 fun v => S 1 L (v :: st) s) := zone_of dX3_is_0 rfl
theorem Z_X3_is_1 {σ : Type} {ret : Option FieldType} {hp : Instr → List Value → σ → (List Value → σ → Prop) → Prop} {K : Option Value → σ → Prop} {S : Nat → zL → List Value → σ → Prop} {L : zL} {s : σ} {st : List Value} : zone ret hp K cX3_is S 1 L st s = (hp (.getfield 107) st s (fun st' s' => S 4 L st' s')) := zone_of dX3_is_1 rfl
theorem Z_X3_is_4 {σ : Type} {ret : Option FieldType} {hp : Instr → List Value → σ → (List Value → σ → Prop) → Prop} {K : Option Value → σ → Prop} {S : Nat → zL → List Value → σ → Prop} {L : zL} {s : σ} {st : List Value} : zone ret hp K cX3_is S 4 L st s = (zlda L 0 fun v => S 5 L (v :: st) s) := zone_of dX3_is_4 rfl
theorem Z_X3_is_5 {σ : Type} {ret : Option FieldType} {hp : Instr → List Value → σ → (List Value → σ → Prop) → Prop} {K : Option Value → σ → Prop} {S : Nat → zL → List Value → σ → Prop} {L : zL} {s : σ} {st : List Value} : zone ret hp K cX3_is S 5 L st s = (hp (.getfield 110) st s (fun st' s' => S 8 L st' s')) := zone_of dX3_is_5 rfl
theorem Z_X3_is_8 {σ : Type} {ret : Option FieldType} {hp : Instr → List Value → σ → (List Value → σ → Prop) → Prop} {K : Option Value → σ → Prop} {S : Nat → zL → List Value → σ → Prop} {L : zL} {s : σ} {st : List Value} : zone ret hp K cX3_is S 8 L st s = (zb2 st fun x y r => S 9 L (.int (x - y) :: r) s) := zone_of dX3_is_8 rfl
theorem Z_X3_is_9 {σ : Type} {ret : Option FieldType} {hp : Instr → List Value → σ → (List Value → σ → Prop) → Prop} {K : Option Value → σ → Prop} {S : Nat → zL → List Value → σ → Prop} {L : zL} {s : σ} {st : List Value} : zone ret hp K cX3_is S 9 L st s = (zlda L 1 fun v => S 10 L (v :: st) s) := zone_of dX3_is_9 rfl
theorem Z_X3_is_10 {σ : Type} {ret : Option FieldType} {hp : Instr → List Value → σ → (List Value → σ → Prop) → Prop} {K : Option Value → σ → Prop} {S : Nat → zL → List Value → σ → Prop} {L : zL} {s : σ} {st : List Value} : zone ret hp K cX3_is S 10 L st s = (hp (.invokevirtual 113) st s (fun st' s' => S 13 L st' s')) := zone_of dX3_is_10 rfl
theorem Z_X3_is_13 {σ : Type} {ret : Option FieldType} {hp : Instr → List Value → σ → (List Value → σ → Prop) → Prop} {K : Option Value → σ → Prop} {S : Nat → zL → List Value → σ → Prop} {L : zL} {s : σ} {st : List Value} : zone ret hp K cX3_is S 13 L st s = (zb2 st fun x y r => if x = y then S 16 L r s else S 20 L r s) := zone_ic_ne dX3_is_13 (by decide)
theorem Z_X3_is_16 {σ : Type} {ret : Option FieldType} {hp : Instr → List Value → σ → (List Value → σ → Prop) → Prop} {K : Option Value → σ → Prop} {S : Nat → zL → List Value → σ → Prop} {L : zL} {s : σ} {st : List Value} : zone ret hp K cX3_is S 16 L st s = (S 17 L (.int 1 :: st) s) := zone_iconst dX3_is_16 (by decide)
theorem Z_X3_is_17 {σ : Type} {ret : Option FieldType} {hp : Instr → List Value → σ → (List Value → σ → Prop) → Prop} {K : Option Value → σ → Prop} {S : Nat → zL → List Value → σ → Prop} {L : zL} {s : σ} {st : List Value} : zone ret hp K cX3_is S 17 L st s = (S 21 L st s) := zone_goto dX3_is_17 (by decide)
theorem Z_X3_is_20 {σ : Type} {ret : Option FieldType} {hp : Instr → List Value → σ → (List Value → σ → Prop) → Prop} {K : Option Value → σ → Prop} {S : Nat → zL → List Value → σ → Prop} {L : zL} {s : σ} {st : List Value} : zone ret hp K cX3_is S 20 L st s = (S 21 L (.int 0 :: st) s) := zone_iconst dX3_is_20 (by decide)
theorem Z_X3_is_21 {σ : Type} {ret : Option FieldType} {hp : Instr → List Value → σ → (List Value → σ → Prop) → Prop} {K : Option Value → σ → Prop} {S : Nat → zL → List Value → σ → Prop} {L : zL} {s : σ} {st : List Value} : zone ret hp K cX3_is S 21 L st s = (zsti L 2 st fun q r => S 22 q r s) := zone_of dX3_is_21 rfl
theorem Z_X3_is_22 {σ : Type} {ret : Option FieldType} {hp : Instr → List Value → σ → (List Value → σ → Prop) → Prop} {K : Option Value → σ → Prop} {S : Nat → zL → List Value → σ → Prop} {L : zL} {s : σ} {st : List Value} : zone ret hp K cX3_is S 22 L st s = (S 23 L (.int 0 :: st) s) := zone_iconst dX3_is_22 (by decide)
theorem Z_X3_is_23 {σ : Type} {ret : Option FieldType} {hp : Instr → List Value → σ → (List Value → σ → Prop) → Prop} {K : Option Value → σ → Prop} {S : Nat → zL → List Value → σ → Prop} {L : zL} {s : σ} {st : List Value} : zone ret hp K cX3_is S 23 L st s = (zsti L 3 st fun q r => S 24 q r s) := zone_of dX3_is_23 rfl
theorem Z_X3_is_24 {σ : Type} {ret : Option FieldType} {hp : Instr → List Value → σ → (List Value → σ → Prop) → Prop} {K : Option Value → σ → Prop} {S : Nat → zL → List Value → σ → Prop} {L : zL} {s : σ} {st : List Value} : zone ret hp K cX3_is S 24 L st s = (zldi L 3 fun v => S 25 L (v :: st) s) := zone_of dX3_is_24 rfl
theorem Z_X3_is_25 {σ : Type} {ret : Option FieldType} {hp : Instr → List Value → σ → (List Value → σ → Prop) → Prop} {K : Option Value → σ → Prop} {S : Nat → zL → List Value → σ → Prop} {L : zL} {s : σ} {st : List Value} : zone ret hp K cX3_is S 25 L st s = (zlda L 1 fun v => S 26 L (v :: st) s) := zone_of dX3_is_25 rfl
theorem Z_X3_is_26 {σ : Type} {ret : Option FieldType} {hp : Instr → List Value → σ → (List Value → σ → Prop) → Prop} {K : Option Value → σ → Prop} {S : Nat → zL → List Value → σ → Prop} {L : zL} {s : σ} {st : List Value} : zone ret hp K cX3_is S 26 L st s = (hp (.invokevirtual 113) st s (fun st' s' => S 29 L st' s')) := zone_of dX3_is_26 rfl
theorem Z_X3_is_29 {σ : Type} {ret : Option FieldType} {hp : Instr → List Value → σ → (List Value → σ → Prop) → Prop} {K : Option Value → σ → Prop} {S : Nat → zL → List Value → σ → Prop} {L : zL} {s : σ} {st : List Value} : zone ret hp K cX3_is S 29 L st s = (zb2 st fun x y r => if x < y then S 32 L r s else S 67 L r s) := zone_ic_ge dX3_is_29 (by decide)
theorem Z_X3_is_32 {σ : Type} {ret : Option FieldType} {hp : Instr → List Value → σ → (List Value → σ → Prop) → Prop} {K : Option Value → σ → Prop} {S : Nat → zL → List Value → σ → Prop} {L : zL} {s : σ} {st : List Value} : zone ret hp K cX3_is S 32 L st s = (zldi L 2 fun v => S 33 L (v :: st) s) := zone_of dX3_is_32 rfl
theorem Z_X3_is_33 {σ : Type} {ret : Option FieldType} {hp : Instr → List Value → σ → (List Value → σ → Prop) → Prop} {K : Option Value → σ → Prop} {S : Nat → zL → List Value → σ → Prop} {L : zL} {s : σ} {st : List Value} : zone ret hp K cX3_is S 33 L st s = (zb1 st fun x r => if x = 0 then S 67 L r s else S 36 L r s) := zone_if_eq dX3_is_33 (by decide)
theorem Z_X3_is_36 {σ : Type} {ret : Option FieldType} {hp : Instr → List Value → σ → (List Value → σ → Prop) → Prop} {K : Option Value → σ → Prop} {S : Nat → zL → List Value → σ → Prop} {L : zL} {s : σ} {st : List Value} : zone ret hp K cX3_is S 36 L st s = (zlda L 0 fun v => S 37 L (v :: st) s) := zone_of dX3_is_36 rfl
theorem Z_X3_is_37 {σ : Type} {ret : Option FieldType} {hp : Instr → List Value → σ → (List Value → σ → Prop) → Prop} {K : Option Value → σ → Prop} {S : Nat → zL → List Value → σ → Prop} {L : zL} {s : σ} {st : List Value} : zone ret hp K cX3_is S 37 L st s = (hp (.getfield 31) st s (fun st' s' => S 40 L st' s')) := zone_of dX3_is_37 rfl
theorem Z_X3_is_40 {σ : Type} {ret : Option FieldType} {hp : Instr → List Value → σ → (List Value → σ → Prop) → Prop} {K : Option Value → σ → Prop} {S : Nat → zL → List Value → σ → Prop} {L : zL} {s : σ} {st : List Value} : zone ret hp K cX3_is S 40 L st s = (zlda L 0 fun v => S 41 L (v :: st) s) := zone_of dX3_is_40 rfl
theorem Z_X3_is_41 {σ : Type} {ret : Option FieldType} {hp : Instr → List Value → σ → (List Value → σ → Prop) → Prop} {K : Option Value → σ → Prop} {S : Nat → zL → List Value → σ → Prop} {L : zL} {s : σ} {st : List Value} : zone ret hp K cX3_is S 41 L st s = (hp (.getfield 110) st s (fun st' s' => S 44 L st' s')) := zone_of dX3_is_41 rfl
theorem Z_X3_is_44 {σ : Type} {ret : Option FieldType} {hp : Instr → List Value → σ → (List Value → σ → Prop) → Prop} {K : Option Value → σ → Prop} {S : Nat → zL → List Value → σ → Prop} {L : zL} {s : σ} {st : List Value} : zone ret hp K cX3_is S 44 L st s = (zldi L 3 fun v => S 45 L (v :: st) s) := zone_of dX3_is_44 rfl
theorem Z_X3_is_45 {σ : Type} {ret : Option FieldType} {hp : Instr → List Value → σ → (List Value → σ → Prop) → Prop} {K : Option Value → σ → Prop} {S : Nat → zL → List Value → σ → Prop} {L : zL} {s : σ} {st : List Value} : zone ret hp K cX3_is S 45 L st s = (zb2 st fun x y r => S 46 L (.int (x + y) :: r) s) := zone_of dX3_is_45 rfl
theorem Z_X3_is_46 {σ : Type} {ret : Option FieldType} {hp : Instr → List Value → σ → (List Value → σ → Prop) → Prop} {K : Option Value → σ → Prop} {S : Nat → zL → List Value → σ → Prop} {L : zL} {s : σ} {st : List Value} : zone ret hp K cX3_is S 46 L st s = (hp (.iaload) st s (fun st' s' => S 47 L st' s')) := zone_of dX3_is_46 rfl
theorem Z_X3_is_47 {σ : Type} {ret : Option FieldType} {hp : Instr → List Value → σ → (List Value → σ → Prop) → Prop} {K : Option Value → σ → Prop} {S : Nat → zL → List Value → σ → Prop} {L : zL} {s : σ} {st : List Value} : zone ret hp K cX3_is S 47 L st s = (zlda L 1 fun v => S 48 L (v :: st) s) := zone_of dX3_is_47 rfl
theorem Z_X3_is_48 {σ : Type} {ret : Option FieldType} {hp : Instr → List Value → σ → (List Value → σ → Prop) → Prop} {K : Option Value → σ → Prop} {S : Nat → zL → List Value → σ → Prop} {L : zL} {s : σ} {st : List Value} : zone ret hp K cX3_is S 48 L st s = (zldi L 3 fun v => S 49 L (v :: st) s) := zone_of dX3_is_48 rfl
theorem Z_X3_is_49 {σ : Type} {ret : Option FieldType} {hp : Instr → List Value → σ → (List Value → σ → Prop) → Prop} {K : Option Value → σ → Prop} {S : Nat → zL → List Value → σ → Prop} {L : zL} {s : σ} {st : List Value} : zone ret hp K cX3_is S 49 L st s = (hp (.invokevirtual 119) st s (fun st' s' => S 52 L st' s')) := zone_of dX3_is_49 rfl
theorem Z_X3_is_52 {σ : Type} {ret : Option FieldType} {hp : Instr → List Value → σ → (List Value → σ → Prop) → Prop} {K : Option Value → σ → Prop} {S : Nat → zL → List Value → σ → Prop} {L : zL} {s : σ} {st : List Value} : zone ret hp K cX3_is S 52 L st s = (zb2 st fun x y r => if x = y then S 55 L r s else S 59 L r s) := zone_ic_ne dX3_is_52 (by decide)
theorem Z_X3_is_55 {σ : Type} {ret : Option FieldType} {hp : Instr → List Value → σ → (List Value → σ → Prop) → Prop} {K : Option Value → σ → Prop} {S : Nat → zL → List Value → σ → Prop} {L : zL} {s : σ} {st : List Value} : zone ret hp K cX3_is S 55 L st s = (S 56 L (.int 1 :: st) s) := zone_iconst dX3_is_55 (by decide)
theorem Z_X3_is_56 {σ : Type} {ret : Option FieldType} {hp : Instr → List Value → σ → (List Value → σ → Prop) → Prop} {K : Option Value → σ → Prop} {S : Nat → zL → List Value → σ → Prop} {L : zL} {s : σ} {st : List Value} : zone ret hp K cX3_is S 56 L st s = (S 60 L st s) := zone_goto dX3_is_56 (by decide)
theorem Z_X3_is_59 {σ : Type} {ret : Option FieldType} {hp : Instr → List Value → σ → (List Value → σ → Prop) → Prop} {K : Option Value → σ → Prop} {S : Nat → zL → List Value → σ → Prop} {L : zL} {s : σ} {st : List Value} : zone ret hp K cX3_is S 59 L st s = (S 60 L (.int 0 :: st) s) := zone_iconst dX3_is_59 (by decide)
theorem Z_X3_is_60 {σ : Type} {ret : Option FieldType} {hp : Instr → List Value → σ → (List Value → σ → Prop) → Prop} {K : Option Value → σ → Prop} {S : Nat → zL → List Value → σ → Prop} {L : zL} {s : σ} {st : List Value} : zone ret hp K cX3_is S 60 L st s = (zsti L 2 st fun q r => S 61 q r s) := zone_of dX3_is_60 rfl
theorem Z_X3_is_61 {σ : Type} {ret : Option FieldType} {hp : Instr → List Value → σ → (List Value → σ → Prop) → Prop} {K : Option Value → σ → Prop} {S : Nat → zL → List Value → σ → Prop} {L : zL} {s : σ} {st : List Value} : zone ret hp K cX3_is S 61 L st s = (zic L 3 1 fun q => S 64 q st s) := zone_iinc dX3_is_61 (by decide)
theorem Z_X3_is_64 {σ : Type} {ret : Option FieldType} {hp : Instr → List Value → σ → (List Value → σ → Prop) → Prop} {K : Option Value → σ → Prop} {S : Nat → zL → List Value → σ → Prop} {L : zL} {s : σ} {st : List Value} : zone ret hp K cX3_is S 64 L st s = (S 24 L st s) := zone_goto dX3_is_64 (by decide)
theorem Z_X3_is_67 {σ : Type} {ret : Option FieldType} {hp : Instr → List Value → σ → (List Value → σ → Prop) → Prop} {K : Option Value → σ → Prop} {S : Nat → zL → List Value → σ → Prop} {L : zL} {s : σ} {st : List Value} : zone ret hp K cX3_is S 67 L st s = (zldi L 2 fun v => S 68 L (v :: st) s) := zone_of dX3_is_67 rfl
theorem Z_X3_is_68 {σ : Type} {ret : Option FieldType} {hp : Instr → List Value → σ → (List Value → σ → Prop) → Prop} {K : Option Value → σ → Prop} {S : Nat → zL → List Value → σ → Prop} {L : zL} {s : σ} {v : Int32} : zone ret hp K cX3_is S 68 L [.int v] s = (zretI ret v ∧ K (some (.int v)) s) := zone_of dX3_is_68 rfl
set_option maxRecDepth 100000 in
set_option maxHeartbeats 4000000 in
theorem B_X3_is {E : zEnv} (b a : Nat) (s : zM) (K : Option Value → zM → Prop) (hT : T_X3_is E [.ref a] s K) (S : Nat → zL → List Value → zM → Prop) (hm : zMono (zMhpJ E b [])) (hc : zClosed (some .boolean) (zMhpJ E b []) K cX3_is S) : S 0 [some (.ref b), some (.ref a), none, none] [] s := by
  obtain ⟨⟨hi, p, n, e19, e17, hpn⟩, hK⟩ := hT
  unfold yis at hK
  rw [e19, e17, nI_clamp (by omega), nI_clamp (by omega), Nat.add_sub_cancel_left] at hK
  have hi53 := hi
  have hl := zslen_lt _ hi
  have e20 : nI (p + n) - nI p = nI n := by rw [pk_sub (by omega), Nat.add_sub_cancel_left]
  unfold yisw at hK
  by_cases c : n = zslenI (zid E a)
  · rw [decide_eq_true c, Bool.true_and] at hK
    generalize hQ : (fun k => decide (s.2 8 (p + k) = zsch (zid E a) k)) = Q at hK
    have loop : ∀ d k : Nat, k + d = n → (∀ j, j < k → Q j = true) → S 24 [some (.ref b), some (.ref a), some (.int 1), some (.int (nI k))] [] s := by
      intro d
      induction d with
      | zero =>
        intro k hk hall
        obtain rfl : k = n := by omega
        rw [← c, yall_t hall] at hK
        refine zgo hm hc (fun q => q == 24) 40 ?_
        simp (config := {decide := true, maxSteps := 1000000}) (disch := first | rfl | decide | omega) only [↓Z_X3_is_0, ↓Z_X3_is_1, ↓Z_X3_is_4, ↓Z_X3_is_5, ↓Z_X3_is_8, ↓Z_X3_is_9, ↓Z_X3_is_10, ↓Z_X3_is_13, ↓Z_X3_is_16, ↓Z_X3_is_17, ↓Z_X3_is_20, ↓Z_X3_is_21, ↓Z_X3_is_22, ↓Z_X3_is_23, ↓Z_X3_is_24, ↓Z_X3_is_25, ↓Z_X3_is_26, ↓Z_X3_is_29, ↓Z_X3_is_32, ↓Z_X3_is_33, ↓Z_X3_is_36, ↓Z_X3_is_37, ↓Z_X3_is_40, ↓Z_X3_is_41, ↓Z_X3_is_44, ↓Z_X3_is_45, ↓Z_X3_is_46, ↓Z_X3_is_47, ↓Z_X3_is_48, ↓Z_X3_is_49, ↓Z_X3_is_52, ↓Z_X3_is_55, ↓Z_X3_is_56, ↓Z_X3_is_59, ↓Z_X3_is_60, ↓Z_X3_is_61, ↓Z_X3_is_64, ↓Z_X3_is_67, ↓Z_X3_is_68, ↓reduceIte, ↓zrun_stop, ↓zrun_step, ↓zb2_i, ↓zb1_i, ↓zldi_0, ↓zldi_s, ↓zlda_0, ↓zlda_n, ↓zlda_s, ↓zsc_0, ↓zsc_s, ↓zsti_c, ↓zsta_r, ↓zsta_n, ↓zic_0, ↓zic_s, ↓zpush_s, ↓zpush_n, ↓zfew_0, ↓zfew_i, ↓zfew_r, ↓zfew_n, ↓zMl_8, ↓zMhpJ_l, ↓zMhpJ_c, ↓zMhpJ_g, ↓zMhpJ_i, ↓zMg'_107, ↓zMg'_110, ↓zMg'_31, zcat_int, zcat_ref, zcat_null, zret_int, zret_b0, zret_b1, zret_b, Nat.reduceAdd, Nat.reduceSub, Nat.reduceLT, Nat.reduceEqDiff, Nat.reduceBEq, Nat.reduceBNe, true_and, and_true, if_true, if_false, Bool.false_eq_true, Bool.true_eq_false, Bool.or_self, Bool.or_false, Bool.or_true, Bool.false_or, Bool.true_or, zbi_e0, zbi_e1, eq_self, reduceCtorEq, Fin.isValue, zent, List.map_cons, List.map_nil, List.length_cons, List.length_nil, List.replicate, List.cons_append, List.nil_append, List.append_nil, Nat.zero_add, Nat.add_zero, zF_1, zF_2, zA_1, zA_2s, zA_2n, zB_1, zB_2s, zB_2n, not_true_eq_false, not_false_eq_true, Int32.reduceLT, Int32.reduceAdd, Int32.reduceSub, Int32.reduceMul, ne_eq, Int32.reduceToNatClampNeg, zlit_vp, nI_al, nI_la, nI_lm, nI_ml, nI_ltl, nI_llt, nI_eql, nI_lt2, nI_eq2, nI_vp, nI_cl, nI_add, pk_mul, nI_divl, nI_sub2, nI_lsub, nI_ne0l, nI_1, nI_pred, pk_m1, upd_s, upd_n, Nat.lt_irrefl, decide_eq_false_iff_not, decide_eq_true_eq, ite_not, ite_self, Nat.reducePow, Nat.reduceMul, hi53, ← c, Nat.lt_irrefl]
        exact hK
      | succ d ih =>
        intro k hk hall
        have hk' : k < zslenI (zid E a) := by omega
        have hv : vp_in (nI k) (zslenI (zid E a)) := vp_in_nI hk' (by omega)
        have hvp : vp_in (nI (p + k)) 400 := vp_in_nI (by omega) (by decide)
        by_cases c2 : s.2 8 (p + k) = zsch (zid E a) k
        · have hq : Q k = true := by rw [← hQ]; exact decide_eq_true c2
          have ih := ih (k + 1) (by omega) (fun j hj => by
            rcases Nat.lt_succ_iff_lt_or_eq.mp hj with h2 | h2
            · exact hall j h2
            · rw [h2]; exact hq)
          refine zgo hm hc (fun q => q == 24) 60 ?_
          simp (config := {decide := true, maxSteps := 1000000}) (disch := first | rfl | decide | omega) only [↓Z_X3_is_0, ↓Z_X3_is_1, ↓Z_X3_is_4, ↓Z_X3_is_5, ↓Z_X3_is_8, ↓Z_X3_is_9, ↓Z_X3_is_10, ↓Z_X3_is_13, ↓Z_X3_is_16, ↓Z_X3_is_17, ↓Z_X3_is_20, ↓Z_X3_is_21, ↓Z_X3_is_22, ↓Z_X3_is_23, ↓Z_X3_is_24, ↓Z_X3_is_25, ↓Z_X3_is_26, ↓Z_X3_is_29, ↓Z_X3_is_32, ↓Z_X3_is_33, ↓Z_X3_is_36, ↓Z_X3_is_37, ↓Z_X3_is_40, ↓Z_X3_is_41, ↓Z_X3_is_44, ↓Z_X3_is_45, ↓Z_X3_is_46, ↓Z_X3_is_47, ↓Z_X3_is_48, ↓Z_X3_is_49, ↓Z_X3_is_52, ↓Z_X3_is_55, ↓Z_X3_is_56, ↓Z_X3_is_59, ↓Z_X3_is_60, ↓Z_X3_is_61, ↓Z_X3_is_64, ↓Z_X3_is_67, ↓Z_X3_is_68, ↓reduceIte, ↓zrun_stop, ↓zrun_step, ↓zb2_i, ↓zb1_i, ↓zldi_0, ↓zldi_s, ↓zlda_0, ↓zlda_n, ↓zlda_s, ↓zsc_0, ↓zsc_s, ↓zsti_c, ↓zsta_r, ↓zsta_n, ↓zic_0, ↓zic_s, ↓zpush_s, ↓zpush_n, ↓zfew_0, ↓zfew_i, ↓zfew_r, ↓zfew_n, ↓zMl_8, ↓zMhpJ_l, ↓zMhpJ_c, ↓zMhpJ_g, ↓zMhpJ_i, ↓zMg'_107, ↓zMg'_110, ↓zMg'_31, zcat_int, zcat_ref, zcat_null, zret_int, zret_b0, zret_b1, zret_b, Nat.reduceAdd, Nat.reduceSub, Nat.reduceLT, Nat.reduceEqDiff, Nat.reduceBEq, Nat.reduceBNe, true_and, and_true, if_true, if_false, Bool.false_eq_true, Bool.true_eq_false, Bool.or_self, Bool.or_false, Bool.or_true, Bool.false_or, Bool.true_or, zbi_e0, zbi_e1, eq_self, reduceCtorEq, Fin.isValue, zent, List.map_cons, List.map_nil, List.length_cons, List.length_nil, List.replicate, List.cons_append, List.nil_append, List.append_nil, Nat.zero_add, Nat.add_zero, zF_1, zF_2, zA_1, zA_2s, zA_2n, zB_1, zB_2s, zB_2n, not_true_eq_false, not_false_eq_true, Int32.reduceLT, Int32.reduceAdd, Int32.reduceSub, Int32.reduceMul, ne_eq, Int32.reduceToNatClampNeg, zlit_vp, nI_al, nI_la, nI_lm, nI_ml, nI_ltl, nI_llt, nI_eql, nI_lt2, nI_eq2, nI_vp, nI_cl, nI_add, pk_mul, nI_divl, nI_sub2, nI_lsub, nI_ne0l, nI_1, nI_pred, pk_m1, upd_s, upd_n, Nat.lt_irrefl, decide_eq_false_iff_not, decide_eq_true_eq, ite_not, ite_self, Nat.reducePow, Nat.reduceMul, hi53, hk', hv, hvp, e19, nI_add, nI_cl, c2]
          exact ih
        · have hq : Q k = false := by rw [← hQ]; exact decide_eq_false c2
          rw [yall_f hk' hq] at hK
          refine zgo hm hc (fun q => q == 24) 60 ?_
          simp (config := {decide := true, maxSteps := 1000000}) (disch := first | rfl | decide | omega) only [↓Z_X3_is_0, ↓Z_X3_is_1, ↓Z_X3_is_4, ↓Z_X3_is_5, ↓Z_X3_is_8, ↓Z_X3_is_9, ↓Z_X3_is_10, ↓Z_X3_is_13, ↓Z_X3_is_16, ↓Z_X3_is_17, ↓Z_X3_is_20, ↓Z_X3_is_21, ↓Z_X3_is_22, ↓Z_X3_is_23, ↓Z_X3_is_24, ↓Z_X3_is_25, ↓Z_X3_is_26, ↓Z_X3_is_29, ↓Z_X3_is_32, ↓Z_X3_is_33, ↓Z_X3_is_36, ↓Z_X3_is_37, ↓Z_X3_is_40, ↓Z_X3_is_41, ↓Z_X3_is_44, ↓Z_X3_is_45, ↓Z_X3_is_46, ↓Z_X3_is_47, ↓Z_X3_is_48, ↓Z_X3_is_49, ↓Z_X3_is_52, ↓Z_X3_is_55, ↓Z_X3_is_56, ↓Z_X3_is_59, ↓Z_X3_is_60, ↓Z_X3_is_61, ↓Z_X3_is_64, ↓Z_X3_is_67, ↓Z_X3_is_68, ↓reduceIte, ↓zrun_stop, ↓zrun_step, ↓zb2_i, ↓zb1_i, ↓zldi_0, ↓zldi_s, ↓zlda_0, ↓zlda_n, ↓zlda_s, ↓zsc_0, ↓zsc_s, ↓zsti_c, ↓zsta_r, ↓zsta_n, ↓zic_0, ↓zic_s, ↓zpush_s, ↓zpush_n, ↓zfew_0, ↓zfew_i, ↓zfew_r, ↓zfew_n, ↓zMl_8, ↓zMhpJ_l, ↓zMhpJ_c, ↓zMhpJ_g, ↓zMhpJ_i, ↓zMg'_107, ↓zMg'_110, ↓zMg'_31, zcat_int, zcat_ref, zcat_null, zret_int, zret_b0, zret_b1, zret_b, Nat.reduceAdd, Nat.reduceSub, Nat.reduceLT, Nat.reduceEqDiff, Nat.reduceBEq, Nat.reduceBNe, true_and, and_true, if_true, if_false, Bool.false_eq_true, Bool.true_eq_false, Bool.or_self, Bool.or_false, Bool.or_true, Bool.false_or, Bool.true_or, zbi_e0, zbi_e1, eq_self, reduceCtorEq, Fin.isValue, zent, List.map_cons, List.map_nil, List.length_cons, List.length_nil, List.replicate, List.cons_append, List.nil_append, List.append_nil, Nat.zero_add, Nat.add_zero, zF_1, zF_2, zA_1, zA_2s, zA_2n, zB_1, zB_2s, zB_2n, not_true_eq_false, not_false_eq_true, Int32.reduceLT, Int32.reduceAdd, Int32.reduceSub, Int32.reduceMul, ne_eq, Int32.reduceToNatClampNeg, zlit_vp, nI_al, nI_la, nI_lm, nI_ml, nI_ltl, nI_llt, nI_eql, nI_lt2, nI_eq2, nI_vp, nI_cl, nI_add, pk_mul, nI_divl, nI_sub2, nI_lsub, nI_ne0l, nI_1, nI_pred, pk_m1, upd_s, upd_n, Nat.lt_irrefl, decide_eq_false_iff_not, decide_eq_true_eq, ite_not, ite_self, Nat.reducePow, Nat.reduceMul, hi53, hk', hv, hvp, e19, nI_add, nI_cl, c2]
          refine zgo hm hc (fun _ => false) 60 ?_
          simp (config := {decide := true, maxSteps := 1000000}) (disch := first | rfl | decide | omega) only [↓Z_X3_is_0, ↓Z_X3_is_1, ↓Z_X3_is_4, ↓Z_X3_is_5, ↓Z_X3_is_8, ↓Z_X3_is_9, ↓Z_X3_is_10, ↓Z_X3_is_13, ↓Z_X3_is_16, ↓Z_X3_is_17, ↓Z_X3_is_20, ↓Z_X3_is_21, ↓Z_X3_is_22, ↓Z_X3_is_23, ↓Z_X3_is_24, ↓Z_X3_is_25, ↓Z_X3_is_26, ↓Z_X3_is_29, ↓Z_X3_is_32, ↓Z_X3_is_33, ↓Z_X3_is_36, ↓Z_X3_is_37, ↓Z_X3_is_40, ↓Z_X3_is_41, ↓Z_X3_is_44, ↓Z_X3_is_45, ↓Z_X3_is_46, ↓Z_X3_is_47, ↓Z_X3_is_48, ↓Z_X3_is_49, ↓Z_X3_is_52, ↓Z_X3_is_55, ↓Z_X3_is_56, ↓Z_X3_is_59, ↓Z_X3_is_60, ↓Z_X3_is_61, ↓Z_X3_is_64, ↓Z_X3_is_67, ↓Z_X3_is_68, ↓reduceIte, ↓zrun_stop, ↓zrun_step, ↓zb2_i, ↓zb1_i, ↓zldi_0, ↓zldi_s, ↓zlda_0, ↓zlda_n, ↓zlda_s, ↓zsc_0, ↓zsc_s, ↓zsti_c, ↓zsta_r, ↓zsta_n, ↓zic_0, ↓zic_s, ↓zpush_s, ↓zpush_n, ↓zfew_0, ↓zfew_i, ↓zfew_r, ↓zfew_n, ↓zMl_8, ↓zMhpJ_l, ↓zMhpJ_c, ↓zMhpJ_g, ↓zMhpJ_i, ↓zMg'_107, ↓zMg'_110, ↓zMg'_31, zcat_int, zcat_ref, zcat_null, zret_int, zret_b0, zret_b1, zret_b, Nat.reduceAdd, Nat.reduceSub, Nat.reduceLT, Nat.reduceEqDiff, Nat.reduceBEq, Nat.reduceBNe, true_and, and_true, if_true, if_false, Bool.false_eq_true, Bool.true_eq_false, Bool.or_self, Bool.or_false, Bool.or_true, Bool.false_or, Bool.true_or, zbi_e0, zbi_e1, eq_self, reduceCtorEq, Fin.isValue, zent, List.map_cons, List.map_nil, List.length_cons, List.length_nil, List.replicate, List.cons_append, List.nil_append, List.append_nil, Nat.zero_add, Nat.add_zero, zF_1, zF_2, zA_1, zA_2s, zA_2n, zB_1, zB_2s, zB_2n, not_true_eq_false, not_false_eq_true, Int32.reduceLT, Int32.reduceAdd, Int32.reduceSub, Int32.reduceMul, ne_eq, Int32.reduceToNatClampNeg, zlit_vp, nI_al, nI_la, nI_lm, nI_ml, nI_ltl, nI_llt, nI_eql, nI_lt2, nI_eq2, nI_vp, nI_cl, nI_add, pk_mul, nI_divl, nI_sub2, nI_lsub, nI_ne0l, nI_1, nI_pred, pk_m1, upd_s, upd_n, Nat.lt_irrefl, decide_eq_false_iff_not, decide_eq_true_eq, ite_not, ite_self, Nat.reducePow, Nat.reduceMul, hi53, hk', hv, hvp, e19, nI_add, nI_cl, c2]
          first | exact hK | (split <;> exact hK)
    refine zgo hm hc (fun q => q == 24) 60 ?_
    simp (config := {decide := true, maxSteps := 1000000}) (disch := first | rfl | decide | omega) only [↓Z_X3_is_0, ↓Z_X3_is_1, ↓Z_X3_is_4, ↓Z_X3_is_5, ↓Z_X3_is_8, ↓Z_X3_is_9, ↓Z_X3_is_10, ↓Z_X3_is_13, ↓Z_X3_is_16, ↓Z_X3_is_17, ↓Z_X3_is_20, ↓Z_X3_is_21, ↓Z_X3_is_22, ↓Z_X3_is_23, ↓Z_X3_is_24, ↓Z_X3_is_25, ↓Z_X3_is_26, ↓Z_X3_is_29, ↓Z_X3_is_32, ↓Z_X3_is_33, ↓Z_X3_is_36, ↓Z_X3_is_37, ↓Z_X3_is_40, ↓Z_X3_is_41, ↓Z_X3_is_44, ↓Z_X3_is_45, ↓Z_X3_is_46, ↓Z_X3_is_47, ↓Z_X3_is_48, ↓Z_X3_is_49, ↓Z_X3_is_52, ↓Z_X3_is_55, ↓Z_X3_is_56, ↓Z_X3_is_59, ↓Z_X3_is_60, ↓Z_X3_is_61, ↓Z_X3_is_64, ↓Z_X3_is_67, ↓Z_X3_is_68, ↓reduceIte, ↓zrun_stop, ↓zrun_step, ↓zb2_i, ↓zb1_i, ↓zldi_0, ↓zldi_s, ↓zlda_0, ↓zlda_n, ↓zlda_s, ↓zsc_0, ↓zsc_s, ↓zsti_c, ↓zsta_r, ↓zsta_n, ↓zic_0, ↓zic_s, ↓zpush_s, ↓zpush_n, ↓zfew_0, ↓zfew_i, ↓zfew_r, ↓zfew_n, ↓zMl_8, ↓zMhpJ_l, ↓zMhpJ_c, ↓zMhpJ_g, ↓zMhpJ_i, ↓zMg'_107, ↓zMg'_110, ↓zMg'_31, zcat_int, zcat_ref, zcat_null, zret_int, zret_b0, zret_b1, zret_b, Nat.reduceAdd, Nat.reduceSub, Nat.reduceLT, Nat.reduceEqDiff, Nat.reduceBEq, Nat.reduceBNe, true_and, and_true, if_true, if_false, Bool.false_eq_true, Bool.true_eq_false, Bool.or_self, Bool.or_false, Bool.or_true, Bool.false_or, Bool.true_or, zbi_e0, zbi_e1, eq_self, reduceCtorEq, Fin.isValue, zent, List.map_cons, List.map_nil, List.length_cons, List.length_nil, List.replicate, List.cons_append, List.nil_append, List.append_nil, Nat.zero_add, Nat.add_zero, zF_1, zF_2, zA_1, zA_2s, zA_2n, zB_1, zB_2s, zB_2n, not_true_eq_false, not_false_eq_true, Int32.reduceLT, Int32.reduceAdd, Int32.reduceSub, Int32.reduceMul, ne_eq, Int32.reduceToNatClampNeg, zlit_vp, nI_al, nI_la, nI_lm, nI_ml, nI_ltl, nI_llt, nI_eql, nI_lt2, nI_eq2, nI_vp, nI_cl, nI_add, pk_mul, nI_divl, nI_sub2, nI_lsub, nI_ne0l, nI_1, nI_pred, pk_m1, upd_s, upd_n, Nat.lt_irrefl, decide_eq_false_iff_not, decide_eq_true_eq, ite_not, ite_self, Nat.reducePow, Nat.reduceMul, hi53, e19, e17, e20, c]
    rw [if_pos (by omega)]
    exact loop n 0 (by omega) (fun j hj => by omega)
  · rw [decide_eq_false c, Bool.false_and] at hK
    refine zgo hm hc (fun q => q == 24) 60 ?_
    simp (config := {decide := true, maxSteps := 1000000}) (disch := first | rfl | decide | omega) only [↓Z_X3_is_0, ↓Z_X3_is_1, ↓Z_X3_is_4, ↓Z_X3_is_5, ↓Z_X3_is_8, ↓Z_X3_is_9, ↓Z_X3_is_10, ↓Z_X3_is_13, ↓Z_X3_is_16, ↓Z_X3_is_17, ↓Z_X3_is_20, ↓Z_X3_is_21, ↓Z_X3_is_22, ↓Z_X3_is_23, ↓Z_X3_is_24, ↓Z_X3_is_25, ↓Z_X3_is_26, ↓Z_X3_is_29, ↓Z_X3_is_32, ↓Z_X3_is_33, ↓Z_X3_is_36, ↓Z_X3_is_37, ↓Z_X3_is_40, ↓Z_X3_is_41, ↓Z_X3_is_44, ↓Z_X3_is_45, ↓Z_X3_is_46, ↓Z_X3_is_47, ↓Z_X3_is_48, ↓Z_X3_is_49, ↓Z_X3_is_52, ↓Z_X3_is_55, ↓Z_X3_is_56, ↓Z_X3_is_59, ↓Z_X3_is_60, ↓Z_X3_is_61, ↓Z_X3_is_64, ↓Z_X3_is_67, ↓Z_X3_is_68, ↓reduceIte, ↓zrun_stop, ↓zrun_step, ↓zb2_i, ↓zb1_i, ↓zldi_0, ↓zldi_s, ↓zlda_0, ↓zlda_n, ↓zlda_s, ↓zsc_0, ↓zsc_s, ↓zsti_c, ↓zsta_r, ↓zsta_n, ↓zic_0, ↓zic_s, ↓zpush_s, ↓zpush_n, ↓zfew_0, ↓zfew_i, ↓zfew_r, ↓zfew_n, ↓zMl_8, ↓zMhpJ_l, ↓zMhpJ_c, ↓zMhpJ_g, ↓zMhpJ_i, ↓zMg'_107, ↓zMg'_110, ↓zMg'_31, zcat_int, zcat_ref, zcat_null, zret_int, zret_b0, zret_b1, zret_b, Nat.reduceAdd, Nat.reduceSub, Nat.reduceLT, Nat.reduceEqDiff, Nat.reduceBEq, Nat.reduceBNe, true_and, and_true, if_true, if_false, Bool.false_eq_true, Bool.true_eq_false, Bool.or_self, Bool.or_false, Bool.or_true, Bool.false_or, Bool.true_or, zbi_e0, zbi_e1, eq_self, reduceCtorEq, Fin.isValue, zent, List.map_cons, List.map_nil, List.length_cons, List.length_nil, List.replicate, List.cons_append, List.nil_append, List.append_nil, Nat.zero_add, Nat.add_zero, zF_1, zF_2, zA_1, zA_2s, zA_2n, zB_1, zB_2s, zB_2n, not_true_eq_false, not_false_eq_true, Int32.reduceLT, Int32.reduceAdd, Int32.reduceSub, Int32.reduceMul, ne_eq, Int32.reduceToNatClampNeg, zlit_vp, nI_al, nI_la, nI_lm, nI_ml, nI_ltl, nI_llt, nI_eql, nI_lt2, nI_eq2, nI_vp, nI_cl, nI_add, pk_mul, nI_divl, nI_sub2, nI_lsub, nI_ne0l, nI_1, nI_pred, pk_m1, upd_s, upd_n, Nat.lt_irrefl, decide_eq_false_iff_not, decide_eq_true_eq, ite_not, ite_self, Nat.reducePow, Nat.reduceMul, hi53, e19, e17, e20, c]
    refine zgo hm hc (fun _ => false) 60 ?_
    simp (config := {decide := true, maxSteps := 1000000}) (disch := first | rfl | decide | omega) only [↓Z_X3_is_0, ↓Z_X3_is_1, ↓Z_X3_is_4, ↓Z_X3_is_5, ↓Z_X3_is_8, ↓Z_X3_is_9, ↓Z_X3_is_10, ↓Z_X3_is_13, ↓Z_X3_is_16, ↓Z_X3_is_17, ↓Z_X3_is_20, ↓Z_X3_is_21, ↓Z_X3_is_22, ↓Z_X3_is_23, ↓Z_X3_is_24, ↓Z_X3_is_25, ↓Z_X3_is_26, ↓Z_X3_is_29, ↓Z_X3_is_32, ↓Z_X3_is_33, ↓Z_X3_is_36, ↓Z_X3_is_37, ↓Z_X3_is_40, ↓Z_X3_is_41, ↓Z_X3_is_44, ↓Z_X3_is_45, ↓Z_X3_is_46, ↓Z_X3_is_47, ↓Z_X3_is_48, ↓Z_X3_is_49, ↓Z_X3_is_52, ↓Z_X3_is_55, ↓Z_X3_is_56, ↓Z_X3_is_59, ↓Z_X3_is_60, ↓Z_X3_is_61, ↓Z_X3_is_64, ↓Z_X3_is_67, ↓Z_X3_is_68, ↓reduceIte, ↓zrun_stop, ↓zrun_step, ↓zb2_i, ↓zb1_i, ↓zldi_0, ↓zldi_s, ↓zlda_0, ↓zlda_n, ↓zlda_s, ↓zsc_0, ↓zsc_s, ↓zsti_c, ↓zsta_r, ↓zsta_n, ↓zic_0, ↓zic_s, ↓zpush_s, ↓zpush_n, ↓zfew_0, ↓zfew_i, ↓zfew_r, ↓zfew_n, ↓zMl_8, ↓zMhpJ_l, ↓zMhpJ_c, ↓zMhpJ_g, ↓zMhpJ_i, ↓zMg'_107, ↓zMg'_110, ↓zMg'_31, zcat_int, zcat_ref, zcat_null, zret_int, zret_b0, zret_b1, zret_b, Nat.reduceAdd, Nat.reduceSub, Nat.reduceLT, Nat.reduceEqDiff, Nat.reduceBEq, Nat.reduceBNe, true_and, and_true, if_true, if_false, Bool.false_eq_true, Bool.true_eq_false, Bool.or_self, Bool.or_false, Bool.or_true, Bool.false_or, Bool.true_or, zbi_e0, zbi_e1, eq_self, reduceCtorEq, Fin.isValue, zent, List.map_cons, List.map_nil, List.length_cons, List.length_nil, List.replicate, List.cons_append, List.nil_append, List.append_nil, Nat.zero_add, Nat.add_zero, zF_1, zF_2, zA_1, zA_2s, zA_2n, zB_1, zB_2s, zB_2n, not_true_eq_false, not_false_eq_true, Int32.reduceLT, Int32.reduceAdd, Int32.reduceSub, Int32.reduceMul, ne_eq, Int32.reduceToNatClampNeg, zlit_vp, nI_al, nI_la, nI_lm, nI_ml, nI_ltl, nI_llt, nI_eql, nI_lt2, nI_eq2, nI_vp, nI_cl, nI_add, pk_mul, nI_divl, nI_sub2, nI_lsub, nI_ne0l, nI_1, nI_pred, pk_m1, upd_s, upd_n, Nat.lt_irrefl, decide_eq_false_iff_not, decide_eq_true_eq, ite_not, ite_self, Nat.reducePow, Nat.reduceMul, hi53]
    first | exact hK | (split <;> exact hK)
theorem MS_X3_is {l : Launch} {E : zEnv} {b0 : Nat} : zMS l E b0 4 yX3_is (ws_ yX3_is cX3_is 4 (some .boolean)) 0 0 (zlV E (T_X3_is E)) := by
  refine zMX_MS (hp := fun b => zMhpJ E b []) rfl (fun p e R s0 m args below meth c Q b n g0 hC => zMJ_hp (by omega) hC) (fun b => zMhpJ_mono) (fun as s K h => ?_) ?_
  · unfold T_X3_is at h
    split at h
    · exact ⟨by show 2 ≤ 4; decide, fun v hv => by simp only [List.mem_cons, List.not_mem_nil, or_false] at hv; rw [hv]; rfl⟩
    · exact h.elim
  · intro _ b as s K hT S hm hc
    have h0 := hT
    unfold T_X3_is at h0
    split at h0
    · exact B_X3_is b _ s K hT S hm hc
    · exact h0.elim
theorem IM_X3_is {l : Launch} {E : zEnv} {b0 d0 : Nat} (hd : 5 ≤ d0) : zInv l E b0 RX3 d0 (.invokevirtual 125) 2 (some 0) 0 0 (zlV E (T_X3_is E)) := zInv.V MS_X3_is hd (by decide) (lw_V q1538 q1540 qs69 q158 q1541) (by decide +kernel) rfl rfl
