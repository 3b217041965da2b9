/-! ===== methods over the raw cells; over ToolUnion's state ===== -/
theorem zstp_sim {σ τ : Type} {f : σ → τ} {ret : Option FieldType} {hp : Instr → List Value → σ → (List Value → σ → Prop) → Prop} {hp' : Instr → List Value → τ → (List Value → τ → Prop) → Prop} {K : Option Value → τ → Prop} {S : Nat → zL → List Value → τ → Prop}
    (hh : ∀ i st s (k : List Value → σ → Prop) (k' : List Value → τ → Prop), (∀ st u, k st u → k' st (f u)) → hp i st s k → hp' i st (f s) k') {i : Instr} {len pc : Nat} {L : zL} {st : List Value} {s : σ}
    (h : zstp ret hp (fun v u => K v (f u)) (fun pc L st u => S pc L st (f u)) i len pc L st s) : zstp ret hp' K S i len pc L st (f s) := by
  cases i <;> dsimp only [zstp] at h ⊢ <;> first | exact h | exact hh _ _ _ _ _ (fun _ _ q => q) h
theorem zone_sim {σ τ : Type} {f : σ → τ} {ret : Option FieldType} {hp : Instr → List Value → σ → (List Value → σ → Prop) → Prop} {hp' : Instr → List Value → τ → (List Value → τ → Prop) → Prop} {K : Option Value → τ → Prop} {cc : ByteArray} {S : Nat → zL → List Value → τ → Prop}
    (hh : ∀ i st s (k : List Value → σ → Prop) (k' : List Value → τ → Prop), (∀ st u, k st u → k' st (f u)) → hp i st s k → hp' i st (f s) k') {pc : Nat} {L : zL} {st : List Value} {s : σ}
    (h : zone ret hp (fun v u => K v (f u)) cc (fun pc L st u => S pc L st (f u)) pc L st s) : zone ret hp' K cc S pc L st (f s) := by
  unfold zone at h ⊢
  split at h
  · rename_i q hq
    cases hz : zlen q.1 q.2 with
    | false => rw [hz] at h; exact h.elim
    | true =>
      rw [hz] at h
      exact zstp_sim hh h
  · exact h
theorem r_MS {l : Launch} {E : zEnv} {b0 d nL own : Nat} {y : MethodName} {cc : ByteArray} {ret : Option FieldType} {T : zT zσ} {Γ : zΓ zσ} {tb : rTb} (hy : y.cls = rC own) (hpl : plainName y.cls = true) (htb : rTok own tb) (hΓ : rΓok l E b0 (rC own) d Γ)
    (hargs : ∀ (as : List Value) (s : zσ) (K : Option Value → zσ → Prop), T as s K → as.length ≤ nL ∧ ∀ v ∈ as, v.category = 1)
    (hbody : ∀ (as : List Value) (s : zσ) (K : Option Value → zσ → Prop), T as s K → ∀ S : Nat → zL → List Value → zσ → Prop, zMono (rhp E tb false Γ) → zClosed ret (rhp E tb false Γ) K cc S → S 0 (zent as nL) [] s) :
    zMS l E b0 d y (ws_ y cc nL ret) 0 0 T := by
  intro as s K hT
  obtain ⟨ha1, ha2⟩ := hargs _ _ _ hT
  refine Met.ofW (cc := cc) (maxL := nL) (ret := ret) hpl rfl ?_
  intro p e s0 m args below meth c s₁ B hml hv
  obtain ⟨rfl, hW, hrep⟩ := hv
  have hx := B.exec
  have hb := B.bytes
  have hr := B.returns
  have hts := atoms_spec (ws := ws_ y cc nL ret) B.pre
  have hts : ∀ w ∈ lw_all, w.before _ s0 = true := fun w h => hts w (List.mem_cons_of_mem _ h)
  have hown : s0.vm.findClass (rC own) = some m.cls := by rw [← hy]; exact findClass_of_methodNamed B.named
  have hlocks := B.notSynchronized
  have hC : zCtx E b0 (rC own) d cc nL p (headSpec (ws_ y cc nL ret) (zrm d 0 0)).room s0 m (as.toArray) c := ⟨hx, hb, hml, hown, hts, hW, Nat.le_refl _, Nat.le_refl _⟩
  rw [lg_entry_eq]
  have hL := zent_Lr (as := as) (nL := nL) ha1 ha2
  have hm := rhp_mono (E := E) (T := tb) (ini := false) (fun q hq => (hΓ q hq).1)
  refine hbody as s _ hT (zS p l e _ s0 m _ below meth c _ nL (zIRp E b0 s0)) hm (zclosed (K := K) (Qc := zQc E b0 K) (mc := 0) (ms := 0) (free := zfix b0) hx hb hr hlocks ?_ (fun _ _ _ h => h) (r_hp htb hC hΓ)) (zent_len ha1) s0.heap [] 0 0 _ hL ⟨hrep, va_S.rf, rfl, rfl⟩
  intro v s' H locs k z ⟨hrep', hS', hk, hz⟩ hK
  exact ⟨⟨by omega, by omega⟩, hS'.2.2, fun t ht hWt => ⟨v, _, rfl, hK, by rw [ht]; exact hrep', hS'.F ht⟩⟩
/-- an entry of the calls' table of class own -/
def xinv (l : Launch) (E : zEnv) (b0 b : Nat) (own : String) (d0 : Nat) (q : Nat × Bool × Nat × zT zX) : Prop := zTm q.2.2.2 ∧ (q.2.1 = true → zInv l E b0 own d0 (.invokevirtual q.1) q.2.2.1 none 0 0 (xlf E b q.2.2.2)) ∧ (q.2.1 = false → zInv l E b0 own d0 (.invokestatic q.1) q.2.2.1 none 0 0 (xlf E b q.2.2.2))
def xΓok (l : Launch) (E : zEnv) (b0 b : Nat) (own : String) (d0 : Nat) (Γ : zΓ zX) : Prop := ∀ q ∈ Γ, xinv l E b0 b own d0 q
theorem xΓok_nil {l : Launch} {E : zEnv} {b0 b d0 : Nat} {own : String} : xΓok l E b0 b own d0 [] := fun _ h => nomatch h
theorem xΓok_cons {l : Launch} {E : zEnv} {b0 b d0 : Nat} {own : String} {q : Nat × Bool × Nat × zT zX} {t : zΓ zX} (h : xinv l E b0 b own d0 q) (ht : xΓok l E b0 b own d0 t) : xΓok l E b0 b own d0 (q :: t) := by
  intro x hx
  rcases List.mem_cons.mp hx with rfl | hx
  · exact h
  · exact ht x hx
theorem xΓok.r {l : Launch} {E : zEnv} {b0 b d0 : Nat} {own : String} {Γ : zΓ zX} (h : xΓok l E b0 b own d0 Γ) : rΓok l E b0 own d0 (xΓr E b Γ) := by
  intro q hq
  obtain ⟨x, hx, rfl⟩ := List.mem_map.mp hq
  obtain ⟨h1, h2, h3⟩ := h x hx
  exact ⟨xlf_m h1, h2, h3⟩
/-- a body over the state gives the contract -/
theorem X_MS {l : Launch} {E : zEnv} {b0 b d nL own : Nat} {y : MethodName} {cc : ByteArray} {ret : Option FieldType} {T : zT zX} {Γ : zΓ zX} {tb : rTb} (hy : y.cls = rC own) (hpl : plainName y.cls = true) (htb : rTok own tb) (hΓ : xΓok l E b0 b (rC own) d Γ)
    (hargs : ∀ (as : List Value) (s : zX) (K : Option Value → zX → Prop), T as s K → as.length ≤ nL ∧ ∀ v ∈ as, v.category = 1)
    (hbody : ∀ (as : List Value) (s : zX) (K : Option Value → zX → Prop), T as s K → (∀ v u m, K v (xM u m) = K v u) → ∀ S : Nat → zL → List Value → zX → Prop, zMono (xhp E b tb Γ) → zClosed ret (xhp E b tb Γ) K cc S → (∀ pc L st u m, S pc L st (xM u m) = S pc L st u) → S 0 (zent as nL) [] s) :
    zMS l E b0 d y (ws_ y cc nL ret) 0 0 (xlf E b T) := by
  have hΓm : ∀ q ∈ Γ, zTm q.2.2.2 := fun q hq => (hΓ q hq).1
  refine r_MS hy hpl htb hΓ.r (fun as σ K ⟨s, e, h⟩ => hargs _ _ _ h) ?_
  rintro as σ K ⟨s, rfl, hT⟩ S hm hc
  exact hbody as s (fun v u => K v (xσ E b u)) hT (fun v u m => rfl) (fun pc L st u => S pc L st (xσ E b u)) (xhp_mono hΓm) (fun pc L st u h => hc pc L st (xσ E b u) (zone_sim (fun i st s k k' hk h => xhp_r hΓm hk h) h)) (fun pc L st u m => rfl)
/-- what makes the receiver's class known -/
def xrc (E : zEnv) (b ci : Nat) (T : zT zX) : Prop := ∀ (as : List Value) (s : zX) (K : Option Value → zX → Prop), T as s K → ∃ a fs, as.head? = some (.ref a) ∧ xG E b s a = some (.inr (ci, fs))
theorem xinv.V {l : Launch} {E : zEnv} {b0 b d d0 idx n ci maxL : Nat} {own C : String} {y : MethodName} {bytes : ByteArray} {ret : Option FieldType} {T : zT zX} (hM : zMS l E b0 d y (ws_ y bytes maxL ret) 0 0 (xlf E b T)) (ht : zTm T) (hrc : xrc E b ci T) (hd : d + 1 ≤ d0) (hz : maxL ≤ 21)
    (hw : GoodIn lw_all (wsV own idx C y (ws_ y bytes maxL ret))) (hy : y.cls = C ∧ y.cls ≠ "java/lang/invoke/MethodHandle" ∧ y.cls ≠ "java/lang/invoke/VarHandle" ∧ (parseMethodDescriptor y.desc).map (fun d => d.parameters.length) = some n) {r : vw_C} (hc : zcl[ci]? = some r) (hr : r.1 = C) :
    xinv l E b0 b own d0 (idx, true, n + 1, T) := by
  refine ⟨ht, fun _ => ?_, fun h => nomatch h⟩
  intro p e R s0 m args below meth c cc nL Q H locs k z ls pc as rest s hx hls hdg hrep hS hn hrest hk1 hk2 _ hT
  refine zInv.V hM hd hz hw hy hc hr p e R s0 m args below meth c cc nL Q H locs k z ls pc as rest s hx hls hdg hrep hS hn hrest hk1 hk2 ?_ hT
  rintro ci' h
  cases h
  obtain ⟨u, rfl, hT⟩ := hT
  exact hrc _ _ _ hT
theorem xinv.S {l : Launch} {E : zEnv} {b0 b d d0 idx n maxL : Nat} {own : String} {y : MethodName} {bytes : ByteArray} {ret : Option FieldType} {T : zT zX} (hM : zMS l E b0 d y (ws_ y bytes maxL ret) 0 0 (xlf E b T)) (ht : zTm T) (hd : d + 1 ≤ d0) (hz : maxL ≤ 21)
    (hw : GoodIn lw_all (va_wsS own idx y (ws_ y bytes maxL ret))) (hy : y.cls ≠ "java/lang/invoke/MethodHandle" ∧ y.cls ≠ "java/lang/invoke/VarHandle" ∧ (parseMethodDescriptor y.desc).map (fun d => d.parameters.length) = some n) :
    xinv l E b0 b own d0 (idx, false, n, T) := ⟨ht, (fun h => nomatch h), fun _ => zInv.S hM hd hz hw hy⟩
theorem zInv.SN {l : Launch} {E : zEnv} {b0 d d0 idx n mc ms maxL : Nat} {own host : String} {y : MethodName} {bytes : ByteArray} {ret : Option FieldType} {T : zT zσ} (hM : zMS l E b0 d y (ws_ y bytes maxL ret) mc ms T) (hd : d + 1 ≤ d0) (hz : maxL ≤ 21)
    (hnl : Cond.methodLinkNest own idx y host ∈ zNM) (hst : Cond.static y ∈ lw_all) (hini : Cond.initialized y.cls ∈ lw_all) (hcd : Cond.code y bytes maxL ret ∈ lw_all) (hy : y.cls ≠ "java/lang/invoke/MethodHandle" ∧ y.cls ≠ "java/lang/invoke/VarHandle" ∧ (parseMethodDescriptor y.desc).map (fun d => d.parameters.length) = some n) :
    zInv l E b0 own d0 (.invokestatic idx) n none mc ms T := by
  intro p e R s0 m args below meth c cc nL Q H locs k z ls pc as rest s ⟨hx, hb, hml, hown, hts, hW, hfr, hlo⟩ hls hdg hrep hS hn hrest hk1 hk2 hrc hT
  refine zafter (va_runSN (As := as) (rest := rest) (Ts := lw_all) (host := host) ⟨hx, hb, hml, hown, hts⟩ (hM as s _ hT) ⟨va_cnB n hts (lw_meth hcd) rfl rfl rfl (hW.2.2.2.2.2.1 _ hnl) (hts _ hini) hy ⟨by simp only [zrm]; omega, by simp only [zrm]; omega⟩, hts _ hst, trivial⟩ ⟨zPc_blind, fun U hU hWU => ?_⟩ rfl hn hls rfl (by show 2 * 0 + _ ≤ 8; omega) hdg ⟨hk1, hk2⟩) hS (fun v s' h => h)
  exact ⟨rfl, hW.warm hWU (fun q h1 h2 => by rw [hU]; exact hS.2.1 q h1 h2) (by rw [hU]; exact hS.1), by rw [hU]; exact hrep⟩
theorem zInv.VN {l : Launch} {E : zEnv} {b0 d d0 idx n ci mc ms maxL : Nat} {own C host : String} {y : MethodName} {bytes : ByteArray} {ret : Option FieldType} {T : zT zσ} (hM : zMS l E b0 d y (ws_ y bytes maxL ret) mc ms T) (hd : d + 1 ≤ d0) (hz : maxL ≤ 21)
    (hnl : Cond.methodLinkNest own idx y host ∈ zNM) (hst : Cond.instanceMethod y ∈ lw_all) (hsel : Cond.selects C y y ∈ lw_all) (hini : Cond.initialized y.cls ∈ lw_all) (hcd : Cond.code y bytes maxL ret ∈ lw_all) (hy : y.cls ≠ "java/lang/invoke/MethodHandle" ∧ y.cls ≠ "java/lang/invoke/VarHandle" ∧ (parseMethodDescriptor y.desc).map (fun d => d.parameters.length) = some n) {r : vw_C} (hc : zcl[ci]? = some r) (hr : r.1 = C) :
    zInv l E b0 own d0 (.invokevirtual idx) (n + 1) (some ci) mc ms T := by
  intro p e R s0 m args below meth c cc nL Q H locs k z ls pc as rest s ⟨hx, hb, hml, hown, hts, hW, hfr, hlo⟩ hls hdg hrep hS hn hrest hk1 hk2 hrc hT
  obtain ⟨a, fs, ha, hg⟩ := hrc ci rfl
  cases as with
  | nil => cases ha
  | cons x As =>
    cases ha
    have hn : As.length = n := by simpa using hn
    have hKs := hW.1
    rw [List.reverse_cons, List.append_assoc]
    refine zafter (va_runVN (As := As) (rest := rest) (Ts := lw_all) (host := host) (C := C) ⟨hx, hb, hml, hown, hts⟩ (hM (.ref a :: As) s _ hT) ⟨va_cnB n hts (lw_meth hcd) rfl rfl rfl (hW.2.2.2.2.2.1 _ hnl) (hts _ hini) hy ⟨by simp only [zrm]; omega, by simp only [zrm]; omega⟩, hts _ hst, hts _ hsel⟩ ⟨zPc_blind, by rw [← hr]; exact hrep.recv hKs hg hc, fun U hU hWU => ?_⟩ rfl hn hls rfl (by show 2 * 0 + _ ≤ 8; omega) hdg ⟨hk1, hk2⟩) hS (fun v s' h => h)
    exact ⟨rfl, hW.warm hWU (fun q h1 h2 => by rw [hU]; exact hS.2.1 q h1 h2) (by rw [hU]; exact hS.1), by rw [hU]; exact hrep⟩
theorem xinv.SN {l : Launch} {E : zEnv} {b0 b d d0 idx n maxL : Nat} {own host : String} {y : MethodName} {bytes : ByteArray} {ret : Option FieldType} {T : zT zX} (hM : zMS l E b0 d y (ws_ y bytes maxL ret) 0 0 (xlf E b T)) (ht : zTm T) (hd : d + 1 ≤ d0) (hz : maxL ≤ 21)
    (hnl : Cond.methodLinkNest own idx y host ∈ zNM) (hst : Cond.static y ∈ lw_all) (hini : Cond.initialized y.cls ∈ lw_all) (hcd : Cond.code y bytes maxL ret ∈ lw_all) (hy : y.cls ≠ "java/lang/invoke/MethodHandle" ∧ y.cls ≠ "java/lang/invoke/VarHandle" ∧ (parseMethodDescriptor y.desc).map (fun d => d.parameters.length) = some n) :
    xinv l E b0 b own d0 (idx, false, n, T) := ⟨ht, (fun h => nomatch h), fun _ => zInv.SN hM hd hz hnl hst hini hcd hy⟩
theorem xinv.VN {l : Launch} {E : zEnv} {b0 b d d0 idx n ci maxL : Nat} {own C host : String} {y : MethodName} {bytes : ByteArray} {ret : Option FieldType} {T : zT zX} (hM : zMS l E b0 d y (ws_ y bytes maxL ret) 0 0 (xlf E b T)) (ht : zTm T) (hrc : xrc E b ci T) (hd : d + 1 ≤ d0) (hz : maxL ≤ 21)
    (hnl : Cond.methodLinkNest own idx y host ∈ zNM) (hst : Cond.instanceMethod y ∈ lw_all) (hsel : Cond.selects C y y ∈ lw_all) (hini : Cond.initialized y.cls ∈ lw_all) (hcd : Cond.code y bytes maxL ret ∈ lw_all) (hy : y.cls ≠ "java/lang/invoke/MethodHandle" ∧ y.cls ≠ "java/lang/invoke/VarHandle" ∧ (parseMethodDescriptor y.desc).map (fun d => d.parameters.length) = some n) {r : vw_C} (hc : zcl[ci]? = some r) (hr : r.1 = C) :
    xinv l E b0 b own d0 (idx, true, n + 1, T) := by
  refine ⟨ht, fun _ => ?_, fun h => nomatch h⟩
  intro p e R s0 m args below meth c cc nL Q H locs k z ls pc as rest s hx hls hdg hrep hS hn hrest hk1 hk2 _ hT
  refine zInv.VN hM hd hz hnl hst hsel hini hcd hy hc hr p e R s0 m args below meth c cc nL Q H locs k z ls pc as rest s hx hls hdg hrep hS hn hrest hk1 hk2 ?_ hT
  rintro ci' h
  cases h
  obtain ⟨u, rfl, hT⟩ := hT
  exact hrc _ _ _ hT
/-- a contract of any state, over ToolUnion's -/
theorem xlf_w {E : zEnv} {b : Nat} {l : Launch} {b0 d : Nat} {y : MethodName} {ws : List Cond} {T : zT zσ} {T' : zT zX} (h : zMS l E b0 d y ws 0 0 T) (hT : ∀ as s K, T' as s (fun v u => K v (xσ E b u)) → T as (xσ E b s) K) : zMS l E b0 d y ws 0 0 (xlf E b T') := by
  refine h.weak ?_
  rintro as σ K ⟨s, rfl, q⟩
  exact hT _ _ _ q
