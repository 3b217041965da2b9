/-! ===== more of the heap's rows over zRep: nest mates' fields, statics, arrays of references, lengths ===== -/
section ZROW2
variable {p : Program} {l : Launch} {e : Env} {R : Room} {s0 : State} {m : MethodId} {args : Array Value} {below : List Frame} {meth : Method} {c : Code} {Q : State → Prop} {cc : ByteArray}
variable {H : Heap} {locs : List Loc} {k z : Nat} {ls : Array Slot} {rest : List Value} {pc : Nat} {E : zEnv} {b0 n : Nat} {g : zG} {a : Nat}
theorem zw_getN (hx : p.tables.exec = Jvm.exec) (hb : c.code = cc) {own ref C host : String} {T : u_T} {N ci index : Nat} (hts : ∀ w ∈ lw_all, w.before args s0 = true) (hin : ∀ w ∈ u_ws C T N, w ∈ lw_all) (hown : s0.vm.findClass own = some m.cls) (hK : va_K E.1 zcl (ztys E) s0) (hrep : zRep E b0 n g H)
    {fs : List Value} (hg : g a = some (.inr (ci, fs))) (hc : zcl[ci]? = some (C, T, N)) (j : Nat) (hj : j < N) (hlink : (Cond.fieldLinkNest own index ref (T j).2.1 (T j).2.2.1 host).before args s0 = true) (hsame : ∀ x, s0.fieldFound? (T j).1 (T j).2.1 (T j).2.2.1 = some x → s0.fieldFound? ref (T j).2.1 (T j).2.2.1 = some x) {v : Value} (hv : fs[j]? = some v) (hdg : decode cc pc = .ok (.getfield index, 3))
    (kk : W p l e R s0 m args below meth c H locs k z Q (F0 m (pc + 3) ls (v :: rest))) : W p l e R s0 m args below meth c H locs k z Q (F0 m pc ls (.ref a :: rest)) := by
  obtain ⟨-, -, ws, h1, h2, -⟩ := hrep
  obtain ⟨q0, hq⟩ := (h1 a _).mp hg
  exact va_getN hx hb hts hin hown hK h2 q0 hq hc j hj hlink hsame hv hdg kk
theorem zw_aald (hx : p.tables.exec = Jvm.exec) (hb : c.code = cc) (hK : va_K E.1 zcl (ztys E) s0) (hrep : zRep E b0 n g H) {cA : ClassId} {ty : FieldType} {t0 N : Nat} {f : Nat → Option Nat} (hg : g a = some (.inl (cA, N, .inr (.inr (.inr (.inr f)))))) (ht : (ztys E)[t0]? = some (cA, ty)) (hty : (∃ C, ty = .object C) ∨ ∃ t, ty = .array t) {i : Int32} (hin : vp_in i N) (hdg : decode cc pc = .ok (.aaload, 1))
    (kk : W p l e R s0 m args below meth c H locs k z Q (F0 m (pc + 1) ls (va_rf (f i.toNatClampNeg) :: rest))) : W p l e R s0 m args below meth c H locs k z Q (F0 m pc ls (.int i :: .ref a :: rest)) := by
  obtain ⟨-, -, ws, h1, hP, -⟩ := hrep
  obtain ⟨q0, ha⟩ := (h1 a _).mp hg
  have hlt : i.toNatClampNeg < N := Nat.not_le.mp fun q => hin (Or.inr q)
  rcases hty with ⟨C, rfl⟩ | ⟨t, rfl⟩
  · exact W.aald (v := va_rf (f i.toNatClampNeg)) (ty := .object C) hx hb (hP q0 _ ha) ((hK.2 t0 _ ht).1 N (fun j => va_rf (f j))) rfl (fun q => by cases q) (by show ¬ (i < 0 ∨ (arrV _ _ _).slots.size ≤ _); rw [arrV_size]; exact hin) (by show (arrV _ _ _).slots[_]? = _; rw [arrV_read _ _ hlt]) rfl rfl hdg kk
  · exact W.aald (v := va_rf (f i.toNatClampNeg)) (ty := .array t) hx hb (hP q0 _ ha) ((hK.2 t0 _ ht).1 N (fun j => va_rf (f j))) rfl (fun q => by cases q) (by show ¬ (i < 0 ∨ (arrV _ _ _).slots.size ≤ _); rw [arrV_size]; exact hin) (by show (arrV _ _ _).slots[_]? = _; rw [arrV_read _ _ hlt]) rfl rfl hdg kk
theorem zw_alen (hx : p.tables.exec = Jvm.exec) (hb : c.code = cc) (hK : va_K E.1 zcl (ztys E) s0) (hrep : zRep E b0 n g H) {cA : ClassId} {ty : FieldType} {t0 : Nat} {x : vp_A} (hg : g a = some (.inl (cA, x))) (ht : (ztys E)[t0]? = some (cA, ty)) (hdg : decode cc pc = .ok (.arraylength, 1))
    (kk : W p l e R s0 m args below meth c H locs k z Q (F0 m (pc + 1) ls (.int (Int32.ofNat x.1) :: rest))) : W p l e R s0 m args below meth c H locs k z Q (F0 m pc ls (.ref a :: rest)) := by
  obtain ⟨-, -, ws, h1, h2, -⟩ := hrep
  obtain ⟨q0, hq⟩ := (h1 a _).mp hg
  exact va_alen hx hb hK h2 q0 t0 hq ht rfl hdg kk
theorem zw_gets (hx : p.tables.exec = Jvm.exec) (hb : c.code = cc) {C nm d own ref : String} {v : Value} {index : Nat} (hW : zW E b0 s0) (hq : ∃ j, (C, nm, d, j) ∈ zstl ∧ v = zstv E j) (hS : va_S (zfix b0) s0.heap H locs) (hown : s0.vm.findClass own = some m.cls) (hlink : (Cond.fieldLink own index ref nm d).before args s0 = true) (hsame : ∀ x, s0.fieldFound? C nm d = some x → s0.fieldFound? ref nm d = some x) (hdg : decode cc pc = .ok (.getstatic index, 3))
    (kk : W p l e R s0 m args below meth c H locs k z Q (F0 m (pc + 3) ls (v :: rest))) : W p l e R s0 m args below meth c H locs k z Q (F0 m pc ls rest) := by
  obtain ⟨j, h1, rfl⟩ := hq
  exact va_gets hx hb (hW.2.2.2.1.1 _ h1) hS hown hlink hsame hdg kk
end ZROW2
