/-! ===== contracts by transformers, and their calls ===== -/
abbrev zσ : Type := Nat × zG
abbrev zT (σ : Type) : Type := List Value → σ → (Option Value → σ → Prop) → Prop
def zrm (d mc ms : Nat) : Room := { frames := d, cells := mc, slots := ms, locals := 40 * d }
def zQc (E : zEnv) (b0 : Nat) (K : Option Value → zσ → Prop) : Array Value → State → Outcome → State → Prop := fun _ st oc t => ∃ (v : Option Value) (s' : zσ), oc = .returned v ∧ K v s' ∧ zRep E b0 s'.1 s'.2 t.heap ∧ va_F (zfix b0) st t
def zPc (E : zEnv) (b0 : Nat) (args : List Value) (s : zσ) : Array Value → State → Prop := va_Pc args (fun U => zW E b0 U ∧ zRep E b0 s.1 s.2 U.heap)
theorem zPc_blind {E : zEnv} {b0 : Nat} {args : List Value} {s : zσ} : FrameBlind (zPc E b0 args s) := fun _ _ _ _ h => ⟨h.1, h.2.1.same rfl rfl, h.2.2⟩
/-- a method's contract: from every state and every end that T allows -/
def zMS (l : Launch) (E : zEnv) (b0 d : Nat) (y : MethodName) (ws : List Cond) (mc ms : Nat) (T : zT zσ) : Prop :=
  ∀ (args : List Value) (s : zσ) (K : Option Value → zσ → Prop), T args s K → Met l y ws (zrm d mc ms) (zPc E b0 args s) (zQc E b0 K) mc ms (zfix b0)
theorem zMS.weak {l : Launch} {E : zEnv} {b0 d : Nat} {y : MethodName} {ws : List Cond} {mc ms : Nat} {T T' : zT zσ} (h : zMS l E b0 d y ws mc ms T) (hT : ∀ args s K, T' args s K → T args s K) : zMS l E b0 d y ws mc ms T' := fun args s K q => h args s K (hT args s K q)
section ZCA
variable {p : Program} {l : Launch} {e : Env} {R : Room} {s0 : State} {m : MethodId} {args : Array Value} {below : List Frame} {meth : Method} {c : Code} {Q : State → Prop}
variable {H : Heap} {locs : List Loc} {k z : Nat} {ls : Array Slot} {st0 rest : List Value} {pc : Nat} {E : zEnv} {b0 mc ms : Nat} {a : Array Value}
theorem zafter {K : Option Value → zσ → Prop} (hr : va_Run p l e R s0 m args below meth c H locs k z mc ms (F0 m pc ls st0) rest (zQc E b0 K a) (zfix b0)) (hS : va_S (zfix b0) s0.heap H locs)
    (kk : ∀ v s', K v s' → ∀ (H' : Heap) (locs' : List Loc), zRep E b0 s'.1 s'.2 H' → va_S (zfix b0) s0.heap H' locs' → W p l e R s0 m args below meth c H' locs' (k + mc) (z + ms) Q (F0 m (pc + 3) ls (v.toList ++ rest))) : W p l e R s0 m args below meth c H locs k z Q (F0 m pc ls st0) := by
  intro T hT X
  obtain ⟨v, st₀, t, T', L, h0, X', hL, e1, e2, ⟨v', s', hv, hK, hrep, hz, hk⟩, st⟩ := hr T hT X
  cases hv
  rw [h0] at hz hk
  obtain ⟨t2, a1, b1⟩ := kk v s' hK T'.heap (locs ++ L) (by rw [e1]; exact hrep)
    ⟨Nat.le_trans hS.1 (by rw [e1]; exact hz), fun q h1 h2 => by rw [e1, hk q (Nat.lt_of_lt_of_le h1 hS.1) h2]; exact hS.2.1 q h1 h2, fun q hq => by
      rcases List.mem_append.mp hq with h | h
      · exact hS.2.2 q h
      · exact hL q h⟩ T' rfl X'
  exact ⟨t2, st t2 a1, b1⟩
end ZCA
/-- the caller's own fixed part -/
def zCtx (E : zEnv) (b0 : Nat) (own : String) (d0 : Nat) (cc : ByteArray) (nL : Nat) (p : Program) (R : Room) (s0 : State) (m : MethodId) (args : Array Value) (c : Code) : Prop :=
  p.tables.exec = Jvm.exec ∧ c.code = cc ∧ c.maxLocals = nL ∧ s0.vm.findClass own = some m.cls ∧ (∀ w ∈ lw_all, w.before args s0 = true) ∧ zW E b0 s0 ∧ d0 ≤ R.frames ∧ 40 * d0 ≤ R.locals
/-- instruction i of class own calls what T says (as: the arguments, the receiver among them) -/
def zInv (l : Launch) (E : zEnv) (b0 : Nat) (own : String) (d0 : Nat) (i : Instr) (n : Nat) (rc : Option Nat) (mc ms : Nat) (T : zT zσ) : Prop :=
  ∀ (p : Program) (e : Env) (R : Room) (s0 : State) (m : MethodId) (args : Array Value) (below : List Frame) (meth : Method) (c : Code) (cc : ByteArray) (nL : Nat) (Q : State → Prop) (H : Heap) (locs : List Loc) (k z : Nat) (ls : Array Slot) (pc : Nat) (as rest : List Value) (s : zσ),
    zCtx E b0 own d0 cc nL p R s0 m args c → ls.size = nL → decode cc pc = .ok (i, 3) → zRep E b0 s.1 s.2 H → va_S (zfix b0) s0.heap H locs → as.length = n → (rest.map fun v => v.category).sum ≤ 8 → k + mc ≤ R.cells → z + ms ≤ R.slots →
    (∀ ci, rc = some ci → ∃ a fs, as.head? = some (.ref a) ∧ s.2 a = some (.inr (ci, fs))) →
    T as s (fun v s' => ∀ (H' : Heap) (locs' : List Loc), zRep E b0 s'.1 s'.2 H' → va_S (zfix b0) s0.heap H' locs' → W p l e R s0 m args below meth c H' locs' (k + mc) (z + ms) Q (F0 m (pc + 3) ls (v.toList ++ rest))) →
    W p l e R s0 m args below meth c H locs k z Q (F0 m pc ls (as.reverse ++ rest))
theorem zRep.recv {E : zEnv} {b0 n : Nat} {g : zG} {H : Heap} {U : State} (h : zRep E b0 n g H) (hK : va_K E.1 zcl (ztys E) U) {a ci : Nat} {fs : List Value} (hg : g a = some (.inr (ci, fs))) {r : vw_C} (hc : zcl[ci]? = some r) : ∃ cell : Cell, H[a]? = some cell ∧ cell.vm.isStatics = false ∧ U.vm.findClass r.1 = some cell.cls := by
  obtain ⟨-, -, ws, h1, h2, -⟩ := h
  obtain ⟨k, hk⟩ := (h1 a _).mp hg
  exact va_recv hK h2 hc hk
theorem zInv.V {l : Launch} {E : zEnv} {b0 d d0 idx n ci mc ms maxL : Nat} {own C : String} {y : MethodName} {bytes : ByteArray} {ret : Option FieldType} {T : zT zσ} (hM : zMS l E b0 d y (ws_ y bytes maxL ret) mc ms T) (hd : d + 1 ≤ d0) (hz : maxL ≤ 21)
    (hw : GoodIn lw_all (wsV own idx C y (ws_ y bytes maxL ret))) (hy : y.cls = C ∧ y.cls ≠ "java/lang/invoke/MethodHandle" ∧ y.cls ≠ "java/lang/invoke/VarHandle" ∧ (parseMethodDescriptor y.desc).map (fun d => d.parameters.length) = some n) {r : vw_C} (hc : zcl[ci]? = some r) (hr : r.1 = C) :
    zInv l E b0 own d0 (.invokevirtual idx) (n + 1) (some ci) mc ms T := by
  intro p e R s0 m args below meth c cc nL Q H locs k z ls pc as rest s ⟨hx, hb, hml, hown, hts, hW, hfr, hlo⟩ hls hdg hrep hS hn hrest hk1 hk2 hrc hT
  obtain ⟨a, fs, ha, hg⟩ := hrc ci rfl
  cases as with
  | nil => cases ha
  | cons x As =>
    cases ha
    have hn : As.length = n := by simpa using hn
    have hKs := hW.1
    rw [List.reverse_cons, List.append_assoc]
    refine zafter (va_runV (As := As) (rest := rest) (Ts := lw_all) ⟨hx, hb, hml, hown, hts⟩ (hM (.ref a :: As) s _ hT) (cwV n hts hw rfl rfl rfl hy ⟨by simp only [zrm]; omega, by simp only [zrm]; omega⟩) ⟨zPc_blind, by rw [← hr]; exact hrep.recv hKs hg hc, fun U hU hWU => ?_⟩ rfl hn hls rfl (by show 2 * 0 + _ ≤ 8; omega) hdg ⟨hk1, hk2⟩) hS (fun v s' h => h)
    exact ⟨rfl, hW.warm hWU (fun q h1 h2 => by rw [hU]; exact hS.2.1 q h1 h2) (by rw [hU]; exact hS.1), by rw [hU]; exact hrep⟩
theorem zInv.S {l : Launch} {E : zEnv} {b0 d d0 idx n mc ms maxL : Nat} {own : String} {y : MethodName} {bytes : ByteArray} {ret : Option FieldType} {T : zT zσ} (hM : zMS l E b0 d y (ws_ y bytes maxL ret) mc ms T) (hd : d + 1 ≤ d0) (hz : maxL ≤ 21)
    (hw : GoodIn lw_all (va_wsS own idx y (ws_ y bytes maxL ret))) (hy : y.cls ≠ "java/lang/invoke/MethodHandle" ∧ y.cls ≠ "java/lang/invoke/VarHandle" ∧ (parseMethodDescriptor y.desc).map (fun d => d.parameters.length) = some n) :
    zInv l E b0 own d0 (.invokestatic idx) n none mc ms T := by
  intro p e R s0 m args below meth c cc nL Q H locs k z ls pc as rest s ⟨hx, hb, hml, hown, hts, hW, hfr, hlo⟩ hls hdg hrep hS hn hrest hk1 hk2 hrc hT
  refine zafter (va_runS (As := as) (rest := rest) (Ts := lw_all) ⟨hx, hb, hml, hown, hts⟩ (hM as s _ hT) (va_cwS n hts hw rfl rfl rfl hy ⟨by simp only [zrm]; omega, by simp only [zrm]; omega⟩) ⟨zPc_blind, fun U hU hWU => ?_⟩ rfl hn hls rfl (by show 2 * 0 + _ ≤ 8; omega) hdg ⟨hk1, hk2⟩) hS (fun v s' h => h)
  exact ⟨rfl, hW.warm hWU (fun q h1 h2 => by rw [hU]; exact hS.2.1 q h1 h2) (by rw [hU]; exact hS.1), by rw [hU]; exact hrep⟩
