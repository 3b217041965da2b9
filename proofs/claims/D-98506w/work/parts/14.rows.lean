/-! ===== the heap's rows over zRep ===== -/
section ZROW
variable {p : Program} {l : Launch} {e : Env} {R : Room} {s0 : State} {m : MethodId} {args : Array Value} {below : List Frame} {meth : Method} {c : Code} {Q : State → Prop} {cc : ByteArray}
variable {H : Heap} {locs : List Loc} {k z : Nat} {ls : Array Slot} {rest : List Value} {pc : Nat} {E : zEnv} {b0 n : Nat} {g : zG} {a : Nat}
theorem zw_get (hx : p.tables.exec = Jvm.exec) (hb : c.code = cc) {own ref C : String} {T : u_T} {N ci index : Nat} (hts : ∀ w ∈ lw_all, w.before args s0 = true) (hin : ∀ w ∈ u_ws C T N, w ∈ lw_all) (hown : s0.vm.findClass own = some m.cls) (hK : va_K E.1 zcl (ztys E) s0) (hrep : zRep E b0 n g H)
    {fs : List Value} (hg : g a = some (.inr (ci, fs))) (hc : zcl[ci]? = some (C, T, N)) (j : Nat) (hj : j < N) (hlink : (Cond.fieldLink own index ref (T j).2.1 (T j).2.2.1).before args s0 = true) (hsame : ∀ x, s0.fieldFound? (T j).1 (T j).2.1 (T j).2.2.1 = some x → s0.fieldFound? ref (T j).2.1 (T j).2.2.1 = some x) {v : Value} (hv : fs[j]? = some v) (hdg : decode cc pc = .ok (.getfield index, 3))
    (kk : W p l e R s0 m args below meth c H locs k z Q (F0 m (pc + 3) ls (v :: rest))) : W p l e R s0 m args below meth c H locs k z Q (F0 m pc ls (.ref a :: rest)) := by
  obtain ⟨-, -, ws, h1, h2, -⟩ := hrep
  obtain ⟨q0, hq⟩ := (h1 a _).mp hg
  exact va_get hx hb hts hin hown hK h2 q0 hq hc j hj hlink hsame hv hdg kk
theorem zw_put (hx : p.tables.exec = Jvm.exec) (hb : c.code = cc) {own ref C : String} {T : u_T} {N ci index : Nat} (hts : ∀ w ∈ lw_all, w.before args s0 = true) (hin : ∀ w ∈ u_ws C T N, w ∈ lw_all) (ty0 : Nat → FieldType) (hty : ∀ k, k < N → parseFieldDescriptor (T k).2.2.1 = some (ty0 k)) (hnm : ∀ a, a < N → ∀ b, b < N → a ≠ b → (T a).2.1 ≠ (T b).2.1) (hown : s0.vm.findClass own = some m.cls) (hK : va_K E.1 zcl (ztys E) s0) (hrep : zRep E b0 n g H) (hS0 : va_S (zfix b0) s0.heap H locs)
    {fs : List Value} (hg : g a = some (.inr (ci, fs))) (hc : zcl[ci]? = some (C, T, N)) (j : Nat) (hj : j < N) (hlink : (Cond.fieldLink own index ref (T j).2.1 (T j).2.2.1).before args s0 = true) (hsame : ∀ x, s0.fieldFound? (T j).1 (T j).2.1 (T j).2.2.1 = some x → s0.fieldFound? ref (T j).2.1 (T j).2.2.1 = some x) (hfin : (T j).2.2.2 = false) {v : Value} (hn : narrow (ty0 j) v = v) (hfit : fits (ty0 j) v = true) (hl : j < fs.length)
    (hdg : decode cc pc = .ok (.putfield index, 3)) (kk : ∀ (H1 : Heap) (locs1 : List Loc), zRep E b0 n (zup g a (.inr (ci, fs.set j v))) H1 → va_S (zfix b0) s0.heap H1 locs1 → W p l e R s0 m args below meth c H1 locs1 k z Q (F0 m (pc + 3) ls rest)) : W p l e R s0 m args below meth c H locs k z Q (F0 m pc ls (v :: .ref a :: rest)) := by
  obtain ⟨hz, hbn, ws, hw1, hP, hD⟩ := hrep
  obtain ⟨q0, he⟩ := (hw1 a _).mp hg
  have hap := va_apart (own := own) hts hin ty0 hty hnm hK hc
  obtain ⟨r, h1, cell, q1, q2, q3, q4⟩ := hP q0 _ he
  have hr : r = (C, T, N) := Option.some.inj (h1.symm.trans hc)
  subst hr
  obtain ⟨hS, hfc, kC, hkC, hkind⟩ := hK.1 ci _ hc
  obtain ⟨cf, kf, fi, f, hi, hsl⟩ := hS j hj
  have hlay := hts _ (hin _ (u_in_lay hj))
  unfold u_lay at hlay
  rw [if_neg (by rw [hfin]; decide)] at hlay
  have hst := (u_facts hfc hkC (u_lays hts hin hj) hi).1
  have h6 := u_store hfc hkC hkind hlay hi (hty j hj) hn hfit
  refine W.putK hx hb (f := f) ⟨hown, hlink, ⟨_, _, _, hsame _ hi⟩, hst⟩ (by rw [q2]; exact h6) q1 q3 (by rw [hsl]; exact k2_hasslot (q4 j hj)) rfl rfl hdg fun H' e1 e2 e3 => ?_
  rw [hsl] at e1 ⊢
  exact kk H' _ (zRep.set hz hbn hw1 hD he e2 (hP.set hD he ⟨_, hc, t_OB.to (V := updV (vp_V fs) j v) ⟨_, e1, q2, q3, t_set q4 hap hj v⟩ (fun x _ => vp_updV_set hl v x)⟩ e3) (hD.set he)) (hS0.put e2 e3 (hD.2 q0 _ he))
theorem zw_iald (hx : p.tables.exec = Jvm.exec) (hb : c.code = cc) (hK : va_K E.1 zcl (ztys E) s0) (hrep : zRep E b0 n g H) {N : Nat} {f : Nat → Int32} (hg : g a = some (.inl (E.dA 0, N, .inl f))) {i : Int32} (hin : vp_in i N) (hdg : decode cc pc = .ok (.iaload, 1))
    (kk : W p l e R s0 m args below meth c H locs k z Q (F0 m (pc + 1) ls (.int (f i.toNatClampNeg) :: rest))) : W p l e R s0 m args below meth c H locs k z Q (F0 m pc ls (.int i :: .ref a :: rest)) := by
  obtain ⟨-, -, ws, h1, h2, -⟩ := hrep
  obtain ⟨q0, hq⟩ := (h1 a _).mp hg
  exact va_iald hx hb hK h2 q0 0 hq rfl hin hdg kk
theorem zw_zald (hx : p.tables.exec = Jvm.exec) (hb : c.code = cc) (hK : va_K E.1 zcl (ztys E) s0) (hrep : zRep E b0 n g H) {N : Nat} {f : Nat → Int32} (hg : g a = some (.inl (E.dA 1, N, .inl f))) {i : Int32} (hin : vp_in i N) (hdg : decode cc pc = .ok (.baload, 1))
    (kk : W p l e R s0 m args below meth c H locs k z Q (F0 m (pc + 1) ls (.int (f i.toNatClampNeg) :: rest))) : W p l e R s0 m args below meth c H locs k z Q (F0 m pc ls (.int i :: .ref a :: rest)) := by
  obtain ⟨-, -, ws, h1, h2, -⟩ := hrep
  obtain ⟨q0, hq⟩ := (h1 a _).mp hg
  exact va_zald hx hb hK h2 q0 1 hq rfl hin hdg kk
theorem zw_bald (hx : p.tables.exec = Jvm.exec) (hb : c.code = cc) (hK : va_K E.1 zcl (ztys E) s0) (hrep : zRep E b0 n g H) {N : Nat} {f : Nat → Int32} (hg : g a = some (.inl (E.dA 2, N, .inl f))) {i : Int32} (hin : vp_in i N) (hdg : decode cc pc = .ok (.baload, 1))
    (kk : W p l e R s0 m args below meth c H locs k z Q (F0 m (pc + 1) ls (.int (f i.toNatClampNeg) :: rest))) : W p l e R s0 m args below meth c H locs k z Q (F0 m pc ls (.int i :: .ref a :: rest)) := by
  obtain ⟨-, -, ws, h1, h2, -⟩ := hrep
  obtain ⟨q0, hq⟩ := (h1 a _).mp hg
  exact va_bald hx hb hK h2 q0 2 hq rfl hin hdg kk
theorem zupd_cell {cA : ClassId} {N : Nat} {f : Nat → Int32} {j : Nat} {x : Int32} : updV (fun q => Value.int (f q)) j (.int x) = fun q => .int (upd f j x q) := by
  funext q
  by_cases hq : q = j
  · subst hq
    simp [updV, upd]
  · simp [updV, upd, hq]
theorem zw_iast (hx : p.tables.exec = Jvm.exec) (hb : c.code = cc) (hK : va_K E.1 zcl (ztys E) s0) (hrep : zRep E b0 n g H) (hS : va_S (zfix b0) s0.heap H locs) {N : Nat} {f : Nat → Int32} (hg : g a = some (.inl (E.dA 0, N, .inl f))) {i x : Int32} (hin : vp_in i N) (hdg : decode cc pc = .ok (.iastore, 1))
    (kk : ∀ (H1 : Heap) (locs1 : List Loc), zRep E b0 n (zup g a (.inl (E.dA 0, N, .inl (upd f i.toNatClampNeg x)))) H1 → va_S (zfix b0) s0.heap H1 locs1 → W p l e R s0 m args below meth c H1 locs1 k z Q (F0 m (pc + 1) ls rest)) : W p l e R s0 m args below meth c H locs k z Q (F0 m pc ls (.int x :: .int i :: .ref a :: rest)) := by
  obtain ⟨hz, hbn, ws, h1, hP, hD⟩ := hrep
  obtain ⟨q0, ha⟩ := (h1 a _).mp hg
  refine W.iast hx hb (hP q0 _ ha) ((hK.2 0 _ rfl).1 N (fun j => .int (f j))) (fun q => by cases q) (by show ¬ (i < 0 ∨ (arrV _ _ _).slots.size ≤ _); rw [arrV_size]; exact hin) rfl rfl hdg fun H1 e z oq => ?_
  refine kk H1 _ (zRep.set hz hbn h1 hD ha z (hP.set hD ha ?_ oq) (hD.set ha)) (hS.put z oq (hD.2 q0 _ ha))
  show H1[a]? = some (vp_cell _ _)
  rw [e, vp_cell_i, vp_cell_i, arrV_store, zupd_cell (cA := 0) (N := 0)]
theorem zw_bast (hx : p.tables.exec = Jvm.exec) (hb : c.code = cc) (hK : va_K E.1 zcl (ztys E) s0) (hrep : zRep E b0 n g H) (hS : va_S (zfix b0) s0.heap H locs) {N : Nat} {f : Nat → Int32} (hg : g a = some (.inl (E.dA 2, N, .inl f))) {i x x' : Int32} (hx' : narrow .byte (.int x) = .int x') (hin : vp_in i N) (hdg : decode cc pc = .ok (.bastore, 1))
    (kk : ∀ (H1 : Heap) (locs1 : List Loc), zRep E b0 n (zup g a (.inl (E.dA 2, N, .inl (upd f i.toNatClampNeg x')))) H1 → va_S (zfix b0) s0.heap H1 locs1 → W p l e R s0 m args below meth c H1 locs1 k z Q (F0 m (pc + 1) ls rest)) : W p l e R s0 m args below meth c H locs k z Q (F0 m pc ls (.int x :: .int i :: .ref a :: rest)) := by
  obtain ⟨hz, hbn, ws, h1, hP, hD⟩ := hrep
  obtain ⟨q0, ha⟩ := (h1 a _).mp hg
  refine W.bast hx hb (hP q0 _ ha) ((hK.2 2 _ rfl).1 N (fun j => .int (f j))) (fun q => by cases q) (by show ¬ (i < 0 ∨ (arrV _ _ _).slots.size ≤ _); rw [arrV_size]; exact hin) rfl rfl hdg fun H1 e z oq => ?_
  refine kk H1 _ (zRep.set hz hbn h1 hD ha z (hP.set hD ha ?_ oq) (hD.set ha)) (hS.put z oq (hD.2 q0 _ ha))
  show H1[a]? = some (vp_cell _ _)
  rw [e, vp_cell_i, vp_cell_i, hx', arrV_store, zupd_cell (cA := 0) (N := 0)]
theorem zw_zast (hx : p.tables.exec = Jvm.exec) (hb : c.code = cc) (hK : va_K E.1 zcl (ztys E) s0) (hrep : zRep E b0 n g H) (hS : va_S (zfix b0) s0.heap H locs) {N : Nat} {f : Nat → Int32} (hg : g a = some (.inl (E.dA 1, N, .inl f))) {i x x' : Int32} (hx' : narrow .boolean (.int x) = .int x') (hin : vp_in i N) (hdg : decode cc pc = .ok (.bastore, 1))
    (kk : ∀ (H1 : Heap) (locs1 : List Loc), zRep E b0 n (zup g a (.inl (E.dA 1, N, .inl (upd f i.toNatClampNeg x')))) H1 → va_S (zfix b0) s0.heap H1 locs1 → W p l e R s0 m args below meth c H1 locs1 k z Q (F0 m (pc + 1) ls rest)) : W p l e R s0 m args below meth c H locs k z Q (F0 m pc ls (.int x :: .int i :: .ref a :: rest)) := by
  obtain ⟨hz, hbn, ws, h1, hP, hD⟩ := hrep
  obtain ⟨q0, ha⟩ := (h1 a _).mp hg
  refine W.zast hx hb (hP q0 _ ha) ((hK.2 1 _ rfl).1 N (fun j => .int (f j))) (fun q => by cases q) (by show ¬ (i < 0 ∨ (arrV _ _ _).slots.size ≤ _); rw [arrV_size]; exact hin) rfl rfl hdg fun H1 e z oq => ?_
  refine kk H1 _ (zRep.set hz hbn h1 hD ha z (hP.set hD ha ?_ oq) (hD.set ha)) (hS.put z oq (hD.2 q0 _ ha))
  show H1[a]? = some (vp_cell _ _)
  rw [e, vp_cell_i, vp_cell_i, hx', arrV_store, zupd_cell (cA := 0) (N := 0)]
end ZROW
/-! ===== the machine of ToolUnionModel is sound ===== -/
theorem zMG_at {E : zEnv} {b : Nat} {m : zM} {g : zG} {h : Nat} (hh : h ≤ 18) : zMG E b m g (b + h) = some (zMcell E b m h) := by
  unfold zMG
  rw [if_pos ⟨by omega, by omega⟩, Nat.add_sub_cancel_left]
theorem zMG_arr {E : zEnv} {b a : Nat} {m : zM} {g : zG} (h1 : b < a) (h2 : a ≤ b + 18) : zMG E b m g a = some (.inl (E.dA (if zMbl (a - b) = true then 1 else 0), zMlen (a - b), .inl (m.2 (a - b)))) := by
  unfold zMG
  rw [if_pos ⟨by omega, by omega⟩, zMcell, if_neg (by omega)]
theorem zMobj_get {b : Nat} {m : zM} {j : Nat} (hj : j < 39) : (zMobj b m)[j]? = some (zMfield b m j) := by
  unfold zMobj
  rw [List.getElem?_map, List.getElem?_range hj]; rfl
theorem zMobj_len {b : Nat} {m : zM} : (zMobj b m).length = 39 := by simp [zMobj]
theorem zMobj_set {b : Nat} {m : zM} {j : Nat} {v : Int32} (hh : zMh.getD j none = none) : (zMobj b m).set j (.int v) = zMobj b (zF m j v) := by
  apply List.ext_getElem?
  intro q
  by_cases hq : q < 39
  · rw [zMobj_get hq]
    by_cases hqj : q = j
    · subst hqj
      rw [List.getElem?_set_self (by rw [zMobj_len]; exact hq)]
      unfold zMfield
      rw [hh]
      simp [zF, upd]
    · rw [List.getElem?_set_ne (fun e => hqj e.symm), zMobj_get hq]
      unfold zMfield
      cases zMh.getD q none with
      | none => simp [zF, upd, hqj]
      | some h => rfl
  · rw [List.getElem?_eq_none (by rw [List.length_set, zMobj_len]; omega), List.getElem?_eq_none (by rw [zMobj_len]; omega)]
theorem zMG_putF {E : zEnv} {b : Nat} {m : zM} {g : zG} {j : Nat} {v : Int32} (hh : zMh.getD j none = none) : zup (zMG E b m g) b (.inr (0, (zMobj b m).set j (.int v))) = zMG E b (zF m j v) g := by
  funext q
  unfold zup zMG
  by_cases hq : q = b
  · subst hq
    rw [if_pos rfl, if_pos ⟨Nat.le_refl _, by omega⟩, Nat.sub_self, zMcell, if_pos rfl, zMobj_set hh]
  · rw [if_neg hq]
    by_cases h2 : b ≤ q ∧ q ≤ b + 18
    · rw [if_pos h2, if_pos h2]
      have h5 : ¬ q - b = 0 := by omega
      unfold zMcell
      simp only [h5, if_false]
      rfl
    · rw [if_neg h2, if_neg h2]
theorem zMG_putA {E : zEnv} {b a : Nat} {m : zM} {g : zG} {i : Nat} {v : Int32} (h1 : b < a) (h2 : a ≤ b + 18) : zup (zMG E b m g) a (.inl (E.dA (if zMbl (a - b) = true then 1 else 0), zMlen (a - b), .inl (upd (m.2 (a - b)) i v))) = zMG E b (zA m (a - b) i v) g := by
  funext q
  unfold zup zMG
  by_cases hq : q = a
  · subst hq
    have h5 : ¬ q - b = 0 := by omega
    have h6 : b ≤ q ∧ q ≤ b + 18 := ⟨by omega, h2⟩
    simp only [if_true, h6, and_self, zMcell, h5, if_false, zA]
  · rw [if_neg hq]
    by_cases h3 : b ≤ q ∧ q ≤ b + 18
    · rw [if_pos h3, if_pos h3]
      unfold zMcell
      by_cases h4 : q - b = 0
      · rw [if_pos h4, if_pos h4]; rfl
      · rw [if_neg h4, if_neg h4]
        have h5 : q - b ≠ a - b := by omega
        simp [zA, h5]
    · rw [if_neg h3, if_neg h3]
theorem zlk_mem {α : Type} {l : List (Nat × α)} {i : Nat} {v : α} (h : zlk l i = some v) : (i, v) ∈ l := by
  induction l with
  | nil => cases h
  | cons q t ih =>
    unfold zlk at h
    by_cases hi : i = q.1
    · rw [if_pos hi] at h
      cases h
      rw [hi]
      exact List.mem_cons_self
    · rw [if_neg hi] at h
      exact List.mem_cons_of_mem _ (ih h)
theorem zpop_eq : ∀ (n : Nat) (acc st : List Value) (r : List Value × List Value), zpop n acc st = some r → acc.reverse ++ st = r.1.reverse ++ r.2 ∧ r.1.length = n + acc.length
  | 0, acc, st, r, h => by
    cases h
    exact ⟨rfl, by simp⟩
  | n + 1, acc, v :: st, r, h => by
    obtain ⟨h1, h2⟩ := zpop_eq n (v :: acc) st r h
    refine ⟨?_, by rw [h2, List.length_cons]; omega⟩
    rw [← h1]
    simp
  | n + 1, acc, [], r, h => by cases h
/-- a contract over the model's picture, as one over the heap -/
def zlV (E : zEnv) (T : zT zM) : zT zσ := fun args s K => ∃ (b : Nat) (m : zM) (as : List Value), args = .ref b :: as ∧ s.2 = zMG E b m s.2 ∧ T as m (fun v m' => K v (s.1, zMG E b m' s.2))
def zlS (E : zEnv) (T : zT zM) : zT zσ := fun args s K => ∃ (b : Nat) (m : zM), s.2 = zMG E b m s.2 ∧ T args m (fun v m' => K v (s.1, zMG E b m' s.2))
theorem zMG_idem {E : zEnv} {b : Nat} {m m' : zM} {g : zG} : zMG E b m' (zMG E b m g) = zMG E b m' g := by
  funext q
  unfold zMG
  by_cases h : b ≤ q ∧ q ≤ b + 18
  · rw [if_pos h, if_pos h]
  · rw [if_neg h, if_neg h, if_neg h]
def zTm {σ : Type} (T : zT σ) : Prop := ∀ (as : List Value) (s : σ) (K K' : Option Value → σ → Prop), (∀ v s, K v s → K' v s) → T as s K → T as s K'
/-- the calls' table is sound for a caller of class RX3 at depth d0 -/
def zΓok (l : Launch) (E : zEnv) (b0 d0 : Nat) (Γ : zΓ zM) : Prop := ∀ q ∈ Γ, zTm q.2.2.2 ∧ (q.2.1 = true → zInv l E b0 RX3 d0 (.invokevirtual q.1) (q.2.2.1 + 1) (some 0) 0 0 (zlV E q.2.2.2)) ∧ (q.2.1 = false → zInv l E b0 RX3 d0 (.invokestatic q.1) q.2.2.1 none 0 0 (zlS E q.2.2.2))
theorem zfew_sum : ∀ (st : List Value) (n : Nat), zfew st n = true → (st.map fun v => v.category).sum ≤ n
  | [], _, _ => by simp
  | .int _ :: t, n + 1, h => by
    have := zfew_sum t n h
    show 1 + (t.map fun v => v.category).sum ≤ n + 1
    omega
  | .ref _ :: t, n + 1, h => by
    have := zfew_sum t n h
    show 1 + (t.map fun v => v.category).sum ≤ n + 1
    omega
  | .null :: t, n + 1, h => by
    have := zfew_sum t n h
    show 1 + (t.map fun v => v.category).sum ≤ n + 1
    omega
section ZMC
variable {p : Program} {l : Launch} {e : Env} {R : Room} {s0 : State} {m : MethodId} {args : Array Value} {below : List Frame} {meth : Method} {c : Code} {cc : ByteArray} {Q : State → Prop} {nL : Nat}
def zMRp (E : zEnv) (b0 b n : Nat) (g0 : zG) (s0 : State) (q : zM) (H : Heap) (locs : List Loc) (k z : Nat) : Prop := zRep E b0 n (zMG E b q g0) H ∧ va_S (zfix b0) s0.heap H locs ∧ k = 0 ∧ z = 0
theorem zMhp_mono {E : zEnv} {b : Nat} {Γ : zΓ zM} (hΓ : ∀ q ∈ Γ, zTm q.2.2.2) : zMono (zMhp E b Γ) := by
  intro i st s k k' hk h
  have hs : ∀ x, zcallS Γ x st s k → zcallS Γ x st s k' := by
    intro x h
    unfold zcallS at h ⊢
    split at h
    · rename_i q hq
      refine ⟨h.1, ?_⟩
      have h := h.2
      split at h
      · exact ⟨h.1, hΓ _ (zlk_mem hq) _ _ _ _ (fun v s => hk _ _) h.2⟩
      · exact h
    · exact h
  have hv : ∀ x, zcallV b Γ x st s k → zcallV b Γ x st s k' := by
    intro x h
    unfold zcallV at h ⊢
    split at h
    · rename_i q hq
      refine ⟨h.1, ?_⟩
      have h := h.2
      split at h
      · exact ⟨h.1, h.2.1, hΓ _ (zlk_mem hq) _ _ _ _ (fun v s => hk _ _) h.2.2⟩
      · exact h
    · exact h
  cases i <;> dsimp only [zMhp] at h ⊢
  case getfield => split at h <;> first | exact ⟨h.1, hk _ _ h.2⟩ | exact h
  case putfield => split at h <;> first | exact ⟨h.1, h.2.1, h.2.2.1, hk _ _ h.2.2.2⟩ | exact h
  case iaload => split at h <;> first | exact ⟨h.1, h.2.1, h.2.2.1, h.2.2.2.1, hk _ _ h.2.2.2.2⟩ | exact h
  case baload => split at h <;> first | exact ⟨h.1, h.2.1, h.2.2.1, h.2.2.2.1, hk _ _ h.2.2.2.2⟩ | exact h
  case iastore => split at h <;> first | exact ⟨h.1, h.2.1, h.2.2.1, h.2.2.2.1, hk _ _ h.2.2.2.2⟩ | exact h
  case bastore => split at h <;> first | exact ⟨h.1, h.2.1, h.2.2.1, h.2.2.2.1, h.2.2.2.2.1, hk _ _ h.2.2.2.2.2⟩ | exact h
  case ldc =>
    split at h
    · exact hk _ _ h
    · split at h
      · exact hk _ _ h
      · exact h
  case invokestatic => exact hs _ h
  case invokevirtual => exact hv _ h
  all_goals exact h
theorem zTX3_put : ∀ j, j < 39 → zMh.getD j none = none → (TX3 j).2.2.2 = false ∧ tyX3 j = (if j = 5 then .boolean else .int) := by decide +kernel
theorem zMh_lt : ∀ j, j < 39 → zMbl j = true → j = 11 ∨ j = 12 ∨ j = 13 := by decide +kernel
theorem zTX3_own (j : Nat) : (TX3 j).1 = RX3 := by
  unfold TX3
  split <;> rfl
theorem zfits_int (v : Int32) : fits .int (.int v) = true := rfl
theorem znar_b {v : Int32} (h : v = 0 ∨ v = 1) : narrow .boolean (.int v) = .int v ∧ fits .boolean (.int v) = true := by
  rcases h with rfl | rfl
  · exact ⟨by decide, by decide⟩
  · exact ⟨by decide, by decide⟩
set_option maxHeartbeats 4000000 in
theorem zM_hp {E : zEnv} {b0 b n d0 : Nat} {g0 : zG} {Γ : zΓ zM} (hC : zCtx E b0 RX3 d0 cc nL p R s0 m args c) (hΓ : zΓok l E b0 d0 Γ) :
    ∀ i len pc L st s, decode cc pc = .ok (i, len) → zlen i len = true → zMhp E b Γ i st s (fun st' s' => zS p l e R s0 m args below meth c Q nL (zMRp E b0 b n g0 s0) (pc + len) L st' s') → zS p l e R s0 m args below meth c Q nL (zMRp E b0 b n g0 s0) pc L st s := by
  intro i len pc L st s hd hlen h
  have hC' := hC
  obtain ⟨hx, hb, hml, hown, hts, hW, hfr, hlo⟩ := hC
  have hK := hW.1
  have one : ∀ {n}, (n == 1) = true → n = 1 := fun h => by simpa using h
  have two : ∀ {n}, (n == 2) = true → n = 2 := fun h => by simpa using h
  have three : ∀ {n}, (n == 3) = true → n = 3 := fun h => by simpa using h
  cases i <;> dsimp only [zMhp] at h <;> intro hn H locs k z ls hL ⟨hrep, hS, hk, hz⟩
  case getfield x =>
    cases three hlen
    split at h
    case h_2 => exact h.elim
    rename_i _ j a r hj
    obtain ⟨rfl, h⟩ := h
    obtain ⟨w1, w2⟩ := zMfl_ok _ (zlk_mem hj)
    exact zw_get (C := RX3) (T := TX3) (N := 39) (ci := 0) hx hb hts in_X3 hown hK hrep (fs := zMobj a s) (by have := zMG_at (E := E) (b := a) (m := s) (g := g0) (h := 0) (by omega); rw [Nat.add_zero] at this; rw [this]; rfl) rfl j w2 (hts _ w1) (fun x hx => by rw [zTX3_own] at hx; exact hx) (zMobj_get w2) hd (h hn H locs k z ls hL ⟨hrep, hS, hk, hz⟩)
  case putfield x =>
    cases three hlen
    split at h
    case h_2 => exact h.elim
    rename_i _ j v a r hj
    obtain ⟨rfl, hh, hv, h⟩ := h
    obtain ⟨w1, w2⟩ := zMfl_ok _ (zlk_mem hj)
    obtain ⟨w3, w4⟩ := zTX3_put j w2 hh
    refine zw_put (C := RX3) (T := TX3) (N := 39) (ci := 0) hx hb hts in_X3 tyX3 tyX3_ok nmX3 hown hK hrep hS (fs := zMobj a s) (by have := zMG_at (E := E) (b := a) (m := s) (g := g0) (h := 0) (by omega); rw [Nat.add_zero] at this; rw [this]; rfl) rfl j w2 (hts _ w1) (fun x hx => by rw [zTX3_own] at hx; exact hx) w3 (v := .int v) ?_ ?_ (by rw [zMobj_len]; exact w2) hd (fun H1 locs1 hrep1 hS1 => ?_)
    · rw [w4]
      by_cases h5 : j = 5
      · rw [if_pos h5]; exact (znar_b (hv h5)).1
      · rw [if_neg h5]; rfl
    · rw [w4]
      by_cases h5 : j = 5
      · rw [if_pos h5]; exact (znar_b (hv h5)).2
      · rw [if_neg h5]; rfl
    · rw [zMG_putF hh] at hrep1
      exact h hn H1 locs1 k z ls hL ⟨hrep1, hS1, hk, hz⟩
  case iaload =>
    cases one hlen
    split at h
    case h_2 => exact h.elim
    obtain ⟨h1, h2, h3, h4, h⟩ := h
    have hg := zMG_arr (E := E) (m := s) (g := g0) h1 h2
    rw [h3] at hg
    exact zw_iald hx hb hK hrep hg h4 hd (h hn H locs k z ls hL ⟨hrep, hS, hk, hz⟩)
  case baload =>
    cases one hlen
    split at h
    case h_2 => exact h.elim
    obtain ⟨h1, h2, h3, h4, h⟩ := h
    have hg := zMG_arr (E := E) (m := s) (g := g0) h1 h2
    rw [h3] at hg
    exact zw_zald hx hb hK hrep hg h4 hd (h hn H locs k z ls hL ⟨hrep, hS, hk, hz⟩)
  case iastore =>
    cases one hlen
    split at h
    case h_2 => exact h.elim
    obtain ⟨h1, h2, h3, h4, h⟩ := h
    have hg := zMG_arr (E := E) (m := s) (g := g0) h1 h2
    have hp := fun i v => zMG_putA (E := E) (m := s) (g := g0) (i := i) (v := v) h1 h2
    rw [h3] at hg hp
    exact zw_iast hx hb hK hrep hS hg h4 hd (fun H1 locs1 hrep1 hS1 => h hn H1 locs1 k z ls hL ⟨by rw [← hp]; exact hrep1, hS1, hk, hz⟩)
  case bastore =>
    cases one hlen
    split at h
    case h_2 => exact h.elim
    obtain ⟨h1, h2, h3, h4, h5, h⟩ := h
    have hg := zMG_arr (E := E) (m := s) (g := g0) h1 h2
    have hp := fun i v => zMG_putA (E := E) (m := s) (g := g0) (i := i) (v := v) h1 h2
    rw [h3] at hg hp
    exact zw_zast hx hb hK hrep hS hg (znar_b h5).1 h4 hd (fun H1 locs1 hrep1 hS1 => h hn H1 locs1 k z ls hL ⟨by rw [← hp]; exact hrep1, hS1, hk, hz⟩)
  case ldc x =>
    cases two hlen
    split at h
    · rename_i _ v hv
      exact lv_ldc hx hb hown (hts _ (zMci_ok _ (zlk_mem hv))) hd (h hn H locs k z ls hL ⟨hrep, hS, hk, hz⟩)
    · split at h
      · rename_i _ j hj
        obtain ⟨tx, htx⟩ := zMcs_ok _ (zlk_mem hj)
        exact va_ldcS hx hb hown (hW.2.2.1 _ htx) hd (h hn H locs k z ls hL ⟨hrep, hS, hk, hz⟩)
      · exact h.elim
  case invokestatic x =>
    cases three hlen
    unfold zcallS at h
    split at h
    case h_2 => exact h.elim
    rename_i q hq
    obtain ⟨hqb, h⟩ := h
    split at h
    case h_2 => exact h.elim
    rename_i r hr
    obtain ⟨hf, h⟩ := h
    obtain ⟨e1, e2⟩ := zpop_eq _ _ _ _ hr
    have e1 : st = r.1.reverse ++ r.2 := by simpa using e1
    subst hk; subst hz
    rw [e1]
    refine (hΓ _ (zlk_mem hq)).2.2 hqb p e R s0 m args below meth c cc nL Q H locs 0 0 ls pc r.1 r.2 (n, zMG E b s g0) hC' (hL.1.1.trans hn) hd hrep hS (by rw [e2]; rfl) (zfew_sum _ _ hf) (Nat.zero_le _) (Nat.zero_le _) (fun _ q => by cases q) ⟨b, s, zMG_idem.symm, ?_⟩
    refine (hΓ _ (zlk_mem hq)).1 _ _ _ _ (fun v m' hm H' locs' hrep' hS' => ?_) h
    exact hm hn H' locs' 0 0 ls hL ⟨by rw [zMG_idem] at hrep'; exact hrep', hS', rfl, rfl⟩
  case invokevirtual x =>
    cases three hlen
    unfold zcallV at h
    split at h
    case h_2 => exact h.elim
    rename_i q hq
    obtain ⟨hqb, h⟩ := h
    split at h
    case h_2 => exact h.elim
    rename_i as a r hr
    obtain ⟨rfl, hf, h⟩ := h
    obtain ⟨e1, e2⟩ := zpop_eq _ _ _ _ hr
    have e1 : st = (Value.ref a :: as).reverse ++ r := by simpa using e1
    subst hk; subst hz
    rw [e1]
    refine (hΓ _ (zlk_mem hq)).2.1 hqb p e R s0 m args below meth c cc nL Q H locs 0 0 ls pc (.ref a :: as) r (n, zMG E a s g0) hC' (hL.1.1.trans hn) hd hrep hS (by rw [List.length_cons, e2]; rfl) (zfew_sum _ _ hf) (Nat.zero_le _) (Nat.zero_le _) (fun ci q => by
      cases q
      exact ⟨a, zMobj a s, rfl, by have := zMG_at (E := E) (b := a) (m := s) (g := g0) (h := 0) (by omega); rw [Nat.add_zero] at this; exact this⟩) ⟨a, s, as, rfl, zMG_idem.symm, ?_⟩
    refine (hΓ _ (zlk_mem hq)).1 _ _ _ _ (fun v m' hm H' locs' hrep' hS' => ?_) h
    exact hm hn H' locs' 0 0 ls hL ⟨by rw [zMG_idem] at hrep'; exact hrep', hS', rfl, rfl⟩
  all_goals exact h.elim
/-- the locals at a method's start -/
def zent (as : List Value) (nL : Nat) : zL := as.map some ++ List.replicate (nL - as.length) none
theorem zent_len {as : List Value} {nL : Nat} (h : as.length ≤ nL) : (zent as nL).length = nL := by
  simp only [zent, List.length_append, List.length_map, List.length_replicate]
  omega
theorem zsl_eq : ∀ (as : List Value), (∀ v ∈ as, v.category = 1) → lg_sl as = as.map Slot.val
  | [], _ => rfl
  | v :: t, h => by
    have h1 : ¬ v.category = 2 := by rw [h v List.mem_cons_self]; decide
    have ih := zsl_eq t (fun w hw => h w (List.mem_cons_of_mem _ hw))
    unfold lg_sl at ih ⊢
    rw [List.flatMap_cons, ih, if_neg h1]
    rfl
theorem zargs_eq : ∀ (as : List Value) (i n : Nat), (∀ v ∈ as, v.category = 1) → zas i (as.map some ++ List.replicate n none) = lv_args i as
  | [], i, n, _ => by
    have : ∀ n i, zas i (List.replicate n none) = [] := by
      intro n
      induction n with
      | zero => intro i; rfl
      | succ n ih => intro i; exact ih (i + 1)
    exact this n i
  | v :: t, i, n, h => by
    have h1 : ¬ v.category = 2 := by rw [h v List.mem_cons_self]; decide
    have ih := zargs_eq t (i + 1) n (fun w hw => h w (List.mem_cons_of_mem _ hw))
    show (i, v) :: zas (i + 1) _ = (i, v) :: lv_args (if v.category = 2 then i + 2 else i + 1) t
    rw [if_neg h1]
    exact congrArg _ ih
theorem zent_Lr {as : List Value} {nL : Nat} (h : as.length ≤ nL) (hc : ∀ v ∈ as, v.category = 1) : zLr ((lg_sl as ++ List.replicate (nL - (lg_sl as).length) Slot.unset).toArray) (zent as nL) := by
  have hl : (lg_sl as).length = as.length := by rw [zsl_eq as hc, List.length_map]
  refine ⟨?_, ?_⟩
  · rw [zent_len h]
    unfold zent
    rw [zargs_eq as 0 _ hc]
    exact lv_entry as (by rw [hl]; exact h)
  · intro v hv
    unfold zent at hv
    rcases List.mem_append.mp hv with hv | hv
    · obtain ⟨w, hw, e⟩ := List.mem_map.mp hv
      cases e
      exact hc _ hw
    · have := List.eq_of_mem_replicate hv
      cases this
set_option maxHeartbeats 4000000 in
/-- a method of the model: its body under the machine gives its contract -/
theorem zM_MS {l : Launch} {E : zEnv} {b0 d nL : Nat} {y : MethodName} {cc : ByteArray} {ret : Option FieldType} {T : zT zM} {Γ : zΓ zM} (hy : y.cls = RX3) (hΓ : zΓok l E b0 d Γ)
    (hargs : ∀ (as : List Value) (s : zM) (K : Option Value → zM → Prop), T as s K → as.length + 1 ≤ nL ∧ ∀ v ∈ as, v.category = 1)
    (hbody : ∀ (b : Nat) (as : List Value) (s : zM) (K : Option Value → zM → Prop), T as s K → ∀ S : Nat → zL → List Value → zM → Prop, zMono (zMhp E b Γ) → zClosed ret (zMhp E b Γ) K cc S → S 0 (zent (.ref b :: as) nL) [] s) :
    zMS l E b0 d y (ws_ y cc nL ret) 0 0 (zlV E T) := by
  intro args s K ⟨b, q, as, he, hg, hT⟩
  subst he
  obtain ⟨ha1, ha2⟩ := hargs _ _ _ hT
  refine Met.ofW (cc := cc) (maxL := nL) (ret := ret) (by rw [hy]; decide) rfl ?_
  intro p e s0 m args below meth c s₁ B hml hv
  obtain ⟨rfl, hW, hrep⟩ := hv
  have hx := B.exec
  have hb := B.bytes
  have hr := B.returns
  have hts := atoms_spec (ws := ws_ y cc nL ret) B.pre
  have hts : ∀ w ∈ lw_all, w.before _ s0 = true := fun w h => hts w (List.mem_cons_of_mem _ h)
  have hown : s0.vm.findClass RX3 = some m.cls := by rw [← hy]; exact findClass_of_methodNamed B.named
  have hlocks := B.notSynchronized
  have hC : zCtx E b0 RX3 d cc nL p (headSpec (ws_ y cc nL ret) (zrm d 0 0)).room s0 m ((Value.ref b :: as).toArray) c := ⟨hx, hb, hml, hown, hts, hW, Nat.le_refl _, Nat.le_refl _⟩
  have hcat : ∀ v ∈ Value.ref b :: as, v.category = 1 := by
    intro v hv
    rcases List.mem_cons.mp hv with rfl | hv
    · rfl
    · exact ha2 v hv
  rw [lg_entry_eq]
  have hL := zent_Lr (as := .ref b :: as) (nL := nL) ha1 hcat
  have hm := zMhp_mono (E := E) (b := b) (fun q hq => (hΓ q hq).1)
  refine hbody b as q _ hT (zS p l e _ s0 m _ below meth c _ nL (zMRp E b0 b s.1 s.2 s0)) hm (zclosed (K := fun v m' => K v (s.1, zMG E b m' s.2)) (Qc := zQc E b0 K) (mc := 0) (ms := 0) (free := zfix b0) hx hb hr hlocks ?_ (fun _ _ _ h => h) (zM_hp hC hΓ)) (zent_len ha1) s0.heap [] 0 0 _ hL ⟨by rw [← hg]; exact hrep, va_S.rf, rfl, rfl⟩
  intro v m' H locs k z ⟨hrep', hS', hk, hz⟩ hK
  exact ⟨⟨by omega, by omega⟩, hS'.2.2, fun t ht hWt => ⟨v, _, rfl, hK, by rw [ht]; exact hrep', hS'.F ht⟩⟩
end ZMC
