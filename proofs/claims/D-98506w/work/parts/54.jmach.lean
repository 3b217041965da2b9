/-! the JDK's methods of a String: a machine over the world's String number i -/
def zcallR {σ : Type} (Γ : zΓ σ) (x : Nat) (st : List Value) (s : σ) (k : List Value → σ → Prop) : Prop := match zlk Γ x with
  | some q => q.1 = true ∧ match zpop (q.2.1 + 1) [] st with
    | some r => zfew r.2 8 = true ∧ q.2.2 r.1 s (fun v s' => k (v.toList ++ r.2) s')
    | none => False
  | none => False
def zslenI (i : Nat) : Nat := zslen.getD i 0
def zsch (i : Nat) (j : Nat) : Int32 := (zsbyt.getD i []).getD j 0
def zJhp (E : zEnv) (i : Nat) (fl st9 : List (Nat × Nat)) (Γ : zΓ zσ) (ins : Instr) (st : List Value) (s : zσ) (k : List Value → zσ → Prop) : Prop := match ins with
  | .getfield x => match zlk fl x, st with
    | some f, .ref a :: r => a = E.aK i ∧ k ((if f = 0 then .ref (E.aV i) else .int 0) :: r) s
    | _, _ => False
  | .getstatic x => match zlk st9 x with
    | some j => k (zstv E j :: st) s
    | none => False
  | .arraylength => match st with
    | .ref a :: r => a = E.aV i ∧ k (.int (nI (zslenI i)) :: r) s
    | _ => False
  | .baload => match st with
    | .int j :: .ref a :: r => a = E.aV i ∧ vp_in j (zslenI i) ∧ k (.int (zsch i j.toNatClampNeg) :: r) s
    | _ => False
  | .invokestatic x => zcallS Γ x st s k
  | .invokevirtual x => zcallR Γ x st s k
  | _ => False
theorem zcallS_mono {σ : Type} {Γ : zΓ σ} (hΓ : ∀ q ∈ Γ, zTm q.2.2.2) {x : Nat} {st : List Value} {s : σ} {k k' : List Value → σ → Prop} (hk : ∀ st s, k st s → k' st s) (h : zcallS Γ x st s k) : zcallS Γ x st s k' := by
  unfold zcallS at h ⊢
  split at h
  · rename_i q hq
    refine ⟨h.1, ?_⟩
    have h := h.2
    split at h
    · exact ⟨h.1, hΓ _ (zlk_mem hq) _ _ _ _ (fun v s => hk _ _) h.2⟩
    · exact h
  · exact h
theorem zcallR_mono {σ : Type} {Γ : zΓ σ} (hΓ : ∀ q ∈ Γ, zTm q.2.2.2) {x : Nat} {st : List Value} {s : σ} {k k' : List Value → σ → Prop} (hk : ∀ st s, k st s → k' st s) (h : zcallR Γ x st s k) : zcallR Γ x st s k' := by
  unfold zcallR at h ⊢
  split at h
  · rename_i q hq
    refine ⟨h.1, ?_⟩
    have h := h.2
    split at h
    · exact ⟨h.1, hΓ _ (zlk_mem hq) _ _ _ _ (fun v s => hk _ _) h.2⟩
    · exact h
  · exact h
theorem zJhp_mono {E : zEnv} {i : Nat} {fl st9 : List (Nat × Nat)} {Γ : zΓ zσ} (hΓ : ∀ q ∈ Γ, zTm q.2.2.2) : zMono (zJhp E i fl st9 Γ) := by
  intro ins st s k k' hk h
  cases ins <;> dsimp only [zJhp] at h ⊢
  case getfield => split at h <;> first | exact ⟨h.1, hk _ _ h.2⟩ | exact h
  case getstatic => split at h <;> first | exact hk _ _ h | exact h
  case arraylength => split at h <;> first | exact ⟨h.1, hk _ _ h.2⟩ | exact h
  case baload => split at h <;> first | exact ⟨h.1, h.2.1, hk _ _ h.2.2⟩ | exact h
  case invokestatic => exact zcallS_mono hΓ hk h
  case invokevirtual => exact zcallR_mono hΓ hk h
  all_goals exact h
def zJok (l : Launch) (E : zEnv) (b0 : Nat) (own : String) (d0 : Nat) (Γ : zΓ zσ) : Prop := ∀ q ∈ Γ, zTm q.2.2.2 ∧ (q.2.1 = true → zInv l E b0 own d0 (.invokevirtual q.1) (q.2.2.1 + 1) none 0 0 q.2.2.2) ∧ (q.2.1 = false → zInv l E b0 own d0 (.invokestatic q.1) q.2.2.1 none 0 0 q.2.2.2)
theorem zJok_nil {l : Launch} {E : zEnv} {b0 d0 : Nat} {own : String} : zJok l E b0 own d0 [] := fun q h => by cases h
theorem zJok_cons {l : Launch} {E : zEnv} {b0 d0 : Nat} {own : String} {x : Nat × Bool × Nat × zT zσ} {Γ : zΓ zσ} (h : zTm x.2.2.2 ∧ (x.2.1 = true → zInv l E b0 own d0 (.invokevirtual x.1) (x.2.2.1 + 1) none 0 0 x.2.2.2) ∧ (x.2.1 = false → zInv l E b0 own d0 (.invokestatic x.1) x.2.2.1 none 0 0 x.2.2.2)) (hΓ : zJok l E b0 own d0 Γ) : zJok l E b0 own d0 (x :: Γ) := fun q hq => by
  rcases List.mem_cons.mp hq with rfl | hq
  · exact h
  · exact hΓ q hq
/-- an instance method of a String of the world -/
theorem zInv.K {l : Launch} {E : zEnv} {b0 d d0 idx n maxL : Nat} {own : String} {y : MethodName} {bytes : ByteArray} {ret : Option FieldType} {T : zT zσ} (hM : zMS l E b0 d y (ws_ y bytes maxL ret) 0 0 T) (hd : d + 1 ≤ d0) (hz : maxL ≤ 21)
    (hw : GoodIn lw_all (wsV own idx "java/lang/String" y (ws_ y bytes maxL ret))) (hy : y.cls = "java/lang/String" ∧ y.cls ≠ "java/lang/invoke/MethodHandle" ∧ y.cls ≠ "java/lang/invoke/VarHandle" ∧ (parseMethodDescriptor y.desc).map (fun d => d.parameters.length) = some n)
    (hT : ∀ as s K, T as s K → ∃ i as', i < zN ∧ as = .ref (E.aK i) :: as') : zInv l E b0 own d0 (.invokevirtual idx) (n + 1) none 0 0 T := by
  intro p e R s0 m args below meth c cc nL Q H locs k z ls pc as rest s ⟨hx, hb, hml, hown, hts, hW, hfr, hlo⟩ hls hdg hrep hS hn hrest hk1 hk2 hrc hTs
  obtain ⟨i, As, hi, rfl⟩ := hT _ _ _ hTs
  have hn : As.length = n := by simpa using hn
  have hO := (hW.2.1 i hi).1
  rw [List.reverse_cons, List.append_assoc]
  refine zafter (va_runV (As := As) (rest := rest) (Ts := lw_all) ⟨hx, hb, hml, hown, hts⟩ (hM (.ref (E.aK i) :: As) s _ hTs) (cwV n hts hw rfl rfl rfl hy ⟨by simp only [zrm]; omega, by simp only [zrm]; omega⟩) ⟨zPc_blind, ?_, fun U hU hWU => ?_⟩ rfl hn hls rfl (by show 2 * 0 + _ ≤ 8; omega) hdg ⟨hk1, hk2⟩) hS (fun v s' h => h)
  · obtain ⟨cell, h1, h2, h3, h4⟩ := hO
    exact ⟨cell, by rw [hS.2.1 _ (Array.getElem?_eq_some_iff.mp h1).1 h4]; exact h1, h2, h3⟩
  · exact ⟨rfl, hW.warm hWU (fun q h1 h2 => by rw [hU]; exact hS.2.1 q h1 h2) (by rw [hU]; exact hS.1), by rw [hU]; exact hrep⟩
def zJtabs (own : String) (fl st9 : List (Nat × Nat)) : Prop := (∀ q ∈ fl, ∃ n d, (Cond.fieldLink own q.1 "java/lang/String" n d) ∈ lw_all ∧ ((q.2 = 0 ∧ n = "value" ∧ d = "[B") ∨ (q.2 ≠ 0 ∧ n = "coder" ∧ d = "B"))) ∧ (∀ q ∈ st9, ∃ C n d, (Cond.fieldLink own q.1 C n d) ∈ lw_all ∧ (C, n, d, q.2) ∈ zstl)
theorem zcall_W {l : Launch} {E : zEnv} {b0 d0 : Nat} {own : String} {ins : Instr} {n : Nat} {T : zT zσ} (hI : zInv l E b0 own d0 ins n none 0 0 T) (hTm : zTm T)
    {p : Program} {e : Env} {R : Room} {s0 : State} {m : MethodId} {args : Array Value} {below : List Frame} {meth : Method} {c : Code} {cc : ByteArray} {nL : Nat} {Q : State → Prop} (hC : zCtx E b0 own d0 cc nL p R s0 m args c)
    {pc : Nat} {L : zL} {st : List Value} {s : zσ} (hd : decode cc pc = .ok (ins, 3)) {r : List Value × List Value} (hr : zpop n [] st = some r) (hf : zfew r.2 8 = true)
    (h : T r.1 s (fun v s' => zS p l e R s0 m args below meth c Q nL (zIRp E b0 s0) (pc + 3) L (v.toList ++ r.2) s')) : zS p l e R s0 m args below meth c Q nL (zIRp E b0 s0) pc L st s := by
  intro hn H locs k z ls hL ⟨hrep, hS, hk, hz⟩
  obtain ⟨e1, e2⟩ := zpop_eq _ _ _ _ hr
  have e1 : st = r.1.reverse ++ r.2 := by simpa using e1
  subst hk; subst hz
  rw [e1]
  refine hI p e _ s0 m _ below meth c cc nL _ H locs 0 0 ls pc r.1 r.2 s hC (hL.1.1.trans hn) hd hrep hS (by rw [e2]; rfl) (zfew_sum _ _ hf) (Nat.zero_le _) (Nat.zero_le _) (fun _ q => by cases q) ?_
  refine hTm _ _ _ _ (fun v m' hm H' locs' hrep' hS' => ?_) h
  exact hm hn H' locs' 0 0 ls hL ⟨hrep', hS', rfl, rfl⟩
set_option maxHeartbeats 4000000 in
theorem zJ_MS {l : Launch} {E : zEnv} {b0 d nL na : Nat} {own : String} {y : MethodName} {cc : ByteArray} {ret : Option FieldType} {T : Nat → zT zσ} {Γ : Nat → zΓ zσ} {fl st9 : List (Nat × Nat)} (hy : y.cls = own) (hpl : plainName y.cls = true) (hΓ : ∀ i, zJok l E b0 own d (Γ i)) (htab : zJtabs own fl st9)
    (hargs : ∀ i, zTa (T i) na) (hna : na ≤ nL)
    (hbody : ∀ (i : Nat), i < zN → ∀ (as : List Value) (s : zσ) (K : Option Value → zσ → Prop), T i as s K → ∀ S : Nat → zL → List Value → zσ → Prop, zMono (zJhp E i fl st9 (Γ i)) → zClosed ret (zJhp E i fl st9 (Γ i)) K cc S → S 0 (zent as nL) [] s) :
    zMS l E b0 d y (ws_ y cc nL ret) 0 0 (fun as s K => ∃ i, i < zN ∧ T i as s K) := by
  intro as s K ⟨i, hi, hT⟩
  obtain ⟨ha1, ha2⟩ := hargs i _ _ _ hT
  refine Met.ofW (cc := cc) (maxL := nL) (ret := ret) hpl rfl ?_
  intro p e s0 m args below meth c s₁ B hml hv
  obtain ⟨rfl, hW, hrep⟩ := hv
  have hx := B.exec
  have hb := B.bytes
  have hr := B.returns
  have hts := atoms_spec (ws := ws_ y cc nL ret) B.pre
  have hts : ∀ w ∈ lw_all, w.before _ s0 = true := fun w h => hts w (List.mem_cons_of_mem _ h)
  have hown : s0.vm.findClass own = some m.cls := by rw [← hy]; exact findClass_of_methodNamed B.named
  have hlocks := B.notSynchronized
  have hC : zCtx E b0 own d cc nL p (headSpec (ws_ y cc nL ret) (zrm d 0 0)).room s0 m (as.toArray) c := ⟨hx, hb, hml, hown, hts, hW, Nat.le_refl _, Nat.le_refl _⟩
  rw [lg_entry_eq]
  have hL := zent_Lr (as := as) (nL := nL) (by omega) ha2
  have hm := zJhp_mono (E := E) (i := i) (fl := fl) (st9 := st9) (fun q hq => (hΓ i q hq).1)
  refine hbody i hi as s _ hT (zS p l e _ s0 m _ below meth c _ nL (zIRp E b0 s0)) hm (zclosed (K := K) (Qc := zQc E b0 K) (mc := 0) (ms := 0) (free := zfix b0) hx hb hr hlocks ?_ (fun _ _ _ h => h) ?_) (zent_len (by omega)) s0.heap [] 0 0 _ hL ⟨hrep, va_S.rf, rfl, rfl⟩
  · intro v s' H locs k z ⟨hrep', hS', hk, hz⟩ hK
    exact ⟨⟨by omega, by omega⟩, hS'.2.2, fun t ht hWt => ⟨v, _, rfl, hK, by rw [ht]; exact hrep', hS'.F ht⟩⟩
  · intro ins len pc L st s hd hlen h
    obtain ⟨hO, hCo, hVa, hBy⟩ := hW.2.1 i hi
    cases ins <;> dsimp only [zJhp] at h
    case getfield x =>
      intro hn H locs k z ls hL ⟨hrep, hS, hk, hz⟩
      have e3 : len = 3 := by simpa [zlen] using hlen
      subst e3
      split at h
      case h_2 => exact h.elim
      rename_i _ f a r hf
      obtain ⟨rfl, h⟩ := h
      obtain ⟨n, d, hl, hnd⟩ := htab.1 _ (zlk_mem hf)
      rcases hnd with ⟨e, rfl, rfl⟩ | ⟨e, rfl, rfl⟩
      · rw [if_pos e] at h
        exact vk_getf hx hb hVa hS hown (hts _ hl) (fun x h => h) hd (h hn H locs k z ls hL ⟨hrep, hS, hk, hz⟩)
      · rw [if_neg e] at h
        exact vk_getf hx hb hCo hS hown (hts _ hl) (fun x h => h) hd (h hn H locs k z ls hL ⟨hrep, hS, hk, hz⟩)
    case getstatic x =>
      intro hn H locs k z ls hL ⟨hrep, hS, hk, hz⟩
      have e3 : len = 3 := by simpa [zlen] using hlen
      subst e3
      split at h
      case h_2 => exact h.elim
      rename_i j hj
      obtain ⟨C, n, d, hl, hq⟩ := htab.2 _ (zlk_mem hj)
      exact va_gets hx hb (hW.2.2.2.1.1 _ hq) hS hown (hts _ hl) (fun x h => h) hd (h hn H locs k z ls hL ⟨hrep, hS, hk, hz⟩)
    case arraylength =>
      intro hn H locs k z ls hL ⟨hrep, hS, hk, hz⟩
      have e3 : len = 1 := by simpa [zlen] using hlen
      subst e3
      split at h
      case h_2 => exact h.elim
      obtain ⟨rfl, h⟩ := h
      exact va_tlen hx hb hBy hS rfl hd (h hn H locs k z ls hL ⟨hrep, hS, hk, hz⟩)
    case baload =>
      intro hn H locs k z ls hL ⟨hrep, hS, hk, hz⟩
      have e3 : len = 1 := by simpa [zlen] using hlen
      subst e3
      split at h
      case h_2 => exact h.elim
      obtain ⟨rfl, hin, h⟩ := h
      exact va_tb hx hb hBy hS hin rfl hd (h hn H locs k z ls hL ⟨hrep, hS, hk, hz⟩)
    case invokestatic x =>
      have e3 : len = 3 := by simpa [zlen] using hlen
      subst e3
      unfold zcallS at h
      split at h
      case h_2 => exact h.elim
      rename_i q hq
      obtain ⟨hqb, h⟩ := h
      split at h
      case h_2 => exact h.elim
      rename_i r hr
      exact zcall_W ((hΓ i _ (zlk_mem hq)).2.2 hqb) (hΓ i _ (zlk_mem hq)).1 hC hd hr h.1 h.2
    case invokevirtual x =>
      have e3 : len = 3 := by simpa [zlen] using hlen
      subst e3
      unfold zcallR at h
      split at h
      case h_2 => exact h.elim
      rename_i q hq
      obtain ⟨hqb, h⟩ := h
      split at h
      case h_2 => exact h.elim
      rename_i r hr
      exact zcall_W ((hΓ i _ (zlk_mem hq)).2.1 hqb) (hΓ i _ (zlk_mem hq)).1 hC hd hr h.1 h.2
    all_goals exact h.elim
