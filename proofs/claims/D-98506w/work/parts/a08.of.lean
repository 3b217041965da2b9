/-! ===== a call of the abstract Term.of ===== -/
theorem lw_U {own : String} {idx : Nat} {C owner : String} {x y : MethodName} {b : ByteArray} {L : Nat} {r : Option FieldType} (h1 : Cond.methodLink own idx x ∈ lw_all) (h2 : Cond.sameMethod x.cls owner x.name x.desc ∈ lw_all) (h3 : Cond.selects C x y ∈ lw_all) (h4 : Cond.instanceMethod y ∈ lw_all) (h5 : Cond.initialized y.cls ∈ lw_all) (h6 : Cond.code y b L r ∈ lw_all) : GoodIn lw_all (va_wsU own idx C owner x y (ws_ y b L r)) := by
  refine lw_app ?_ (lw_meth h6)
  intro w hw
  simp only [List.mem_cons, List.not_mem_nil, or_false] at hw
  rcases hw with e | e | e | e | e
  · rw [e]; exact h1
  · rw [e]; exact h2
  · rw [e]; exact h3
  · rw [e]; exact h4
  · rw [e]; exact h5
theorem zInv.A {l : Launch} {E : zEnv} {b0 d d0 idx n ci mc ms maxL : Nat} {own C owner : String} {x y : MethodName} {bytes : ByteArray} {ret : Option FieldType} {T : zT zσ} (hM : zMS l E b0 d y (ws_ y bytes maxL ret) mc ms T) (hd : d + 1 ≤ d0) (hz : maxL ≤ 21)
    (hw : GoodIn lw_all (va_wsU own idx C owner x y (ws_ y bytes maxL ret))) (hdec : Cond.declares ⟨owner, x.name, x.desc⟩ ∈ zND) (hy : owner ≠ "java/lang/invoke/MethodHandle" ∧ owner ≠ "java/lang/invoke/VarHandle" ∧ (parseMethodDescriptor x.desc).map (fun d => d.parameters.length) = some n) {r : vw_C} (hc : zcl[ci]? = some r) (hr : r.1 = C) :
    zInv l E b0 own d0 (.invokevirtual idx) (n + 1) (some ci) mc ms T := by
  intro p e R s0 m args below meth c cc nL Q H locs k z ls pc as rest s ⟨hx, hb, hml, hown, hts, hW, hfr, hlo⟩ hls hdg hrep hS hn hrest hk1 hk2 hrc hT
  obtain ⟨a, fs, ha, hg⟩ := hrc ci rfl
  cases as with
  | nil => cases ha
  | cons x0 As =>
    cases ha
    have hn : As.length = n := by simpa using hn
    have hKs := hW.1
    rw [List.reverse_cons, List.append_assoc]
    refine zafter (va_runU (As := As) (rest := rest) (Ts := lw_all) (x := x) (owner := owner) (C := C) ⟨hx, hb, hml, hown, hts⟩ (hM (.ref a :: As) s _ hT) (va_cwA n hts hw rfl rfl rfl (hW.2.2.2.2.2.2.2.1 _ hdec) hy ⟨by simp only [zrm]; omega, by simp only [zrm]; omega⟩) ⟨zPc_blind, by rw [← hr]; exact hrep.recv hKs hg hc, fun U hU hWU => ?_⟩ rfl hn hls rfl (by show 2 * 0 + _ ≤ 8; omega) hdg ⟨hk1, hk2⟩) hS (fun v s' h => h)
    exact ⟨rfl, hW.warm hWU (fun q h1 h2 => by rw [hU]; exact hS.2.1 q h1 h2) (by rw [hU]; exact hS.1), by rw [hU]; exact hrep⟩
theorem xinv_ofk {l : Launch} {E : zEnv} {b0 b : Nat} : ∀ (k own idx d0 : Nat), k ≤ d0 → Cond.methodLink (rC own) idx ({ cls := "ToolUnion$Term", name := "of", desc := "([I)I" } : MethodName) ∈ lw_all → xinv l E b0 b (rC own) d0 (idx, true, 2, T_X7_of k E b)
  | 0, own, idx, d0, _, _ => by
    refine ⟨Tm_X7_of (E := E), fun _ => ?_, fun h => nomatch h⟩
    intro p e R s0 m args below meth c cc nL Q H locs kk z ls pc as rest s _ _ _ _ _ _ _ _ _ _ hT
    obtain ⟨u, -, hT⟩ := hT
    unfold T_X7_of at hT
    dsimp only at hT
    split at hT
    · exact hT.2.1.elim
    · exact hT.elim
  | k + 1, own, idx, d0, hd, hq => by
    refine ⟨Tm_X7_of (E := E), fun _ => ?_, fun h => nomatch h⟩
    intro p e R s0 m args below meth c cc nL Q H locs kk z ls pc as rest s h1 h2 h3 h4 h5 h6 h7 h8 h9 _ hT
    obtain ⟨u, rfl, hT⟩ := hT
    unfold T_X7_of at hT
    dsimp only at hT
    split at hT
    case h_2 => exact hT.elim
    rename_i a h
    obtain ⟨hh, hok, hK⟩ := hT
    have hw : ∀ {y : MethodName} {by_ : ByteArray} {L : Nat} {r : Option FieldType} {C : String}, Cond.selects C ({ cls := "ToolUnion$Term", name := "of", desc := "([I)I" } : MethodName) y ∈ lw_all → Cond.instanceMethod y ∈ lw_all → Cond.initialized y.cls ∈ lw_all → Cond.code y by_ L r ∈ lw_all → GoodIn lw_all (va_wsU (rC own) idx C "ToolUnion$Term" ({ cls := "ToolUnion$Term", name := "of", desc := "([I)I" } : MethodName) y (ws_ y by_ L r)) := fun a1 a2 a3 a4 => lw_U hq q1064 a1 a2 a3 a4
    have hD : Cond.declares (⟨"ToolUnion$Term", "of", "([I)I"⟩ : MethodName) ∈ zND := List.mem_of_getElem? (i := 0) rfl
    have hok' := hok
    obtain ⟨hf, ⟨v, e1⟩ | ⟨n, hn, e1⟩ | ⟨a1, e1, o1⟩ | ⟨ch, a1, a2, e1, o1, o2, o3⟩⟩ := hok'
    · refine zInv.A (C := "ToolUnion$Number") (ci := 7) (n := 1) (MS_X8_of (b := b) (d := k) k) (by omega) (by decide) (hw q1076 q1069 q175 q1070) hD (by decide +kernel) rfl rfl p e R s0 m args below meth c cc nL Q H locs kk z ls pc _ rest _ h1 h2 h3 h4 h5 h6 h7 h8 h9 (fun ci hc => by cases hc; exact ⟨_, _, rfl, (xG_free hf).trans e1⟩) ⟨u, rfl, ⟨hf, _, e1⟩, ⟨hh, hok⟩, hK⟩
    · refine zInv.A (C := "ToolUnion$Word") (ci := 8) (n := 1) (MS_X9_of (b := b) (d := k) k) (by omega) (by decide) (hw q1078 q1074 q176 q1075) hD (by decide +kernel) rfl rfl p e R s0 m args below meth c cc nL Q H locs kk z ls pc _ rest _ h1 h2 h3 h4 h5 h6 h7 h8 h9 (fun ci hc => by cases hc; exact ⟨_, _, rfl, (xG_free hf).trans e1⟩) ⟨u, rfl, ⟨hf, _, e1⟩, ⟨hh, hok⟩, hK⟩
    · refine zInv.A (C := "ToolUnion$Not") (ci := 10) (n := 1) (MS_X11_of (b := b) (d := k) k (xinv_ofk k 10 13 k (Nat.le_refl _) q1068)) (by omega) (by decide) (hw q1065 q1066 q178 q1067) hD (by decide +kernel) rfl rfl p e R s0 m args below meth c cc nL Q H locs kk z ls pc _ rest _ h1 h2 h3 h4 h5 h6 h7 h8 h9 (fun ci hc => by cases hc; exact ⟨_, _, rfl, (xG_free hf).trans e1⟩) ⟨u, rfl, ⟨hf, _, e1⟩, ⟨hh, hok⟩, hK⟩
    · refine zInv.A (C := "ToolUnion$Two") (ci := 9) (n := 1) (MS_X10_of (b := b) (d := k) k (xinv_ofk k 9 20 k (Nat.le_refl _) q1073)) (by omega) (by decide) (hw q1077 q1071 q177 q1072) hD (by decide +kernel) rfl rfl p e R s0 m args below meth c cc nL Q H locs kk z ls pc _ rest _ h1 h2 h3 h4 h5 h6 h7 h8 h9 (fun ci hc => by cases hc; exact ⟨_, _, rfl, (xG_free hf).trans e1⟩) ⟨u, rfl, ⟨hf, _, e1⟩, ⟨hh, hok⟩, hK⟩
theorem xinv_of {l : Launch} {E : zEnv} {b0 b own idx d0 : Nat} (hd : 411 ≤ d0) (hq : Cond.methodLink (rC own) idx ({ cls := "ToolUnion$Term", name := "of", desc := "([I)I" } : MethodName) ∈ lw_all) : xinv l E b0 b (rC own) d0 (idx, true, 2, T_X7_of 411 E b) := xinv_ofk 411 own idx d0 hd hq
