/-! ===== contracts' shapes ===== -/
section ZCOMB
variable {σ : Type}
def zf0 (P : σ → Prop) (r : σ → Option Value) (n : σ → σ) : zT σ := fun as s K => match as with
  | [] => P s ∧ K (r s) (n s)
  | _ => False
def zf1 (P : Int32 → σ → Prop) (r : Int32 → σ → Option Value) (n : Int32 → σ → σ) : zT σ := fun as s K => match as with
  | [.int x] => P x s ∧ K (r x s) (n x s)
  | _ => False
def zf2 (P : Int32 → Int32 → σ → Prop) (r : Int32 → Int32 → σ → Option Value) (n : Int32 → Int32 → σ → σ) : zT σ := fun as s K => match as with
  | [.int x, .int y] => P x y s ∧ K (r x y s) (n x y s)
  | _ => False
def zf3 (P : Int32 → Int32 → Int32 → σ → Prop) (r : Int32 → Int32 → Int32 → σ → Option Value) (n : Int32 → Int32 → Int32 → σ → σ) : zT σ := fun as s K => match as with
  | [.int x, .int y, .int w] => P x y w s ∧ K (r x y w s) (n x y w s)
  | _ => False
def zf4 (P : Int32 → Int32 → Int32 → Int32 → σ → Prop) (r : Int32 → Int32 → Int32 → Int32 → σ → Option Value) (n : Int32 → Int32 → Int32 → Int32 → σ → σ) : zT σ := fun as s K => match as with
  | [.int x, .int y, .int w, .int u] => P x y w u s ∧ K (r x y w u s) (n x y w u s)
  | _ => False
def zf5 (P : Int32 → Int32 → Int32 → Int32 → Int32 → σ → Prop) (r : Int32 → Int32 → Int32 → Int32 → Int32 → σ → Option Value) (n : Int32 → Int32 → Int32 → Int32 → Int32 → σ → σ) : zT σ := fun as s K => match as with
  | [.int x, .int y, .int w, .int u, .int v] => P x y w u v s ∧ K (r x y w u v s) (n x y w u v s)
  | _ => False
def zTa (T : zT σ) (n : Nat) : Prop := ∀ (as : List Value) (s : σ) (K : Option Value → σ → Prop), T as s K → as.length = n ∧ ∀ v ∈ as, v.category = 1
theorem zcat_i : ∀ (l : List Int32), ∀ v ∈ l.map Value.int, v.category = 1 := by
  intro l v hv
  obtain ⟨x, -, rfl⟩ := List.mem_map.mp hv
  rfl
theorem zf0_m {P : σ → Prop} {r : σ → Option Value} {n : σ → σ} : zTm (zf0 P r n) := by
  intro as s K K' h q
  unfold zf0 at *
  split at q <;> first | exact ⟨q.1, h _ _ q.2⟩ | exact q.elim
theorem zf1_m {P : Int32 → σ → Prop} {r : Int32 → σ → Option Value} {n : Int32 → σ → σ} : zTm (zf1 P r n) := by
  intro as s K K' h q
  unfold zf1 at *
  split at q <;> first | exact ⟨q.1, h _ _ q.2⟩ | exact q.elim
theorem zf2_m {P : Int32 → Int32 → σ → Prop} {r : Int32 → Int32 → σ → Option Value} {n : Int32 → Int32 → σ → σ} : zTm (zf2 P r n) := by
  intro as s K K' h q
  unfold zf2 at *
  split at q <;> first | exact ⟨q.1, h _ _ q.2⟩ | exact q.elim
theorem zf3_m {P : Int32 → Int32 → Int32 → σ → Prop} {r : Int32 → Int32 → Int32 → σ → Option Value} {n : Int32 → Int32 → Int32 → σ → σ} : zTm (zf3 P r n) := by
  intro as s K K' h q
  unfold zf3 at *
  split at q <;> first | exact ⟨q.1, h _ _ q.2⟩ | exact q.elim
theorem zf4_m {P : Int32 → Int32 → Int32 → Int32 → σ → Prop} {r : Int32 → Int32 → Int32 → Int32 → σ → Option Value} {n : Int32 → Int32 → Int32 → Int32 → σ → σ} : zTm (zf4 P r n) := by
  intro as s K K' h q
  unfold zf4 at *
  split at q <;> first | exact ⟨q.1, h _ _ q.2⟩ | exact q.elim
theorem zf5_m {P : Int32 → Int32 → Int32 → Int32 → Int32 → σ → Prop} {r : Int32 → Int32 → Int32 → Int32 → Int32 → σ → Option Value} {n : Int32 → Int32 → Int32 → Int32 → Int32 → σ → σ} : zTm (zf5 P r n) := by
  intro as s K K' h q
  unfold zf5 at *
  split at q <;> first | exact ⟨q.1, h _ _ q.2⟩ | exact q.elim
theorem zf0_a {P : σ → Prop} {r : σ → Option Value} {n : σ → σ} : zTa (zf0 P r n) 0 := by
  intro as s K q
  unfold zf0 at q
  split at q <;> first | exact ⟨rfl, zcat_i []⟩ | exact q.elim
theorem zf1_a {P : Int32 → σ → Prop} {r : Int32 → σ → Option Value} {n : Int32 → σ → σ} : zTa (zf1 P r n) 1 := by
  intro as s K q
  unfold zf1 at q
  split at q <;> first | exact ⟨rfl, zcat_i [_]⟩ | exact q.elim
theorem zf2_a {P : Int32 → Int32 → σ → Prop} {r : Int32 → Int32 → σ → Option Value} {n : Int32 → Int32 → σ → σ} : zTa (zf2 P r n) 2 := by
  intro as s K q
  unfold zf2 at q
  split at q <;> first | exact ⟨rfl, zcat_i [_, _]⟩ | exact q.elim
theorem zf3_a {P : Int32 → Int32 → Int32 → σ → Prop} {r : Int32 → Int32 → Int32 → σ → Option Value} {n : Int32 → Int32 → Int32 → σ → σ} : zTa (zf3 P r n) 3 := by
  intro as s K q
  unfold zf3 at q
  split at q <;> first | exact ⟨rfl, zcat_i [_, _, _]⟩ | exact q.elim
theorem zf4_a {P : Int32 → Int32 → Int32 → Int32 → σ → Prop} {r : Int32 → Int32 → Int32 → Int32 → σ → Option Value} {n : Int32 → Int32 → Int32 → Int32 → σ → σ} : zTa (zf4 P r n) 4 := by
  intro as s K q
  unfold zf4 at q
  split at q <;> first | exact ⟨rfl, zcat_i [_, _, _, _]⟩ | exact q.elim
theorem zf5_a {P : Int32 → Int32 → Int32 → Int32 → Int32 → σ → Prop} {r : Int32 → Int32 → Int32 → Int32 → Int32 → σ → Option Value} {n : Int32 → Int32 → Int32 → Int32 → Int32 → σ → σ} : zTa (zf5 P r n) 5 := by
  intro as s K q
  unfold zf5 at q
  split at q <;> first | exact ⟨rfl, zcat_i [_, _, _, _, _]⟩ | exact q.elim
/-- a static method that answers out of its arguments alone -/
def zp1 (P : Int32 → Prop) (r : Int32 → Int32) : zT σ := zf1 (fun x _ => P x) (fun x _ => some (.int (r x))) (fun _ s => s)
def zp2 (P : Int32 → Int32 → Prop) (r : Int32 → Int32 → Int32) : zT σ := zf2 (fun x y _ => P x y) (fun x y _ => some (.int (r x y))) (fun _ _ s => s)
def zp3 (P : Int32 → Int32 → Int32 → Prop) (r : Int32 → Int32 → Int32 → Int32) : zT σ := zf3 (fun x y w _ => P x y w) (fun x y w _ => some (.int (r x y w))) (fun _ _ _ s => s)
end ZCOMB
theorem zlS_back {E : zEnv} {b : Nat} {m : zM} {s : zσ} (h : s.2 = zMG E b m s.2) : (s.1, zMG E b m s.2) = s := by rw [← h]
theorem zp1_w {E : zEnv} {P : Int32 → Prop} {r : Int32 → Int32} (args : List Value) (s : zσ) (K : Option Value → zσ → Prop) (h : zlS E (zp1 P r) args s K) : zp1 P r args s K := by
  obtain ⟨b, m, hg, h⟩ := h
  unfold zp1 zf1 at *
  split at h
  · exact ⟨h.1, by have := h.2; dsimp only at this; rw [zlS_back hg] at this; exact this⟩
  · exact h.elim
theorem zp2_w {E : zEnv} {P : Int32 → Int32 → Prop} {r : Int32 → Int32 → Int32} (args : List Value) (s : zσ) (K : Option Value → zσ → Prop) (h : zlS E (zp2 P r) args s K) : zp2 P r args s K := by
  obtain ⟨b, m, hg, h⟩ := h
  unfold zp2 zf2 at *
  split at h
  · exact ⟨h.1, by have := h.2; dsimp only at this; rw [zlS_back hg] at this; exact this⟩
  · exact h.elim
theorem zp3_w {E : zEnv} {P : Int32 → Int32 → Int32 → Prop} {r : Int32 → Int32 → Int32 → Int32} (args : List Value) (s : zσ) (K : Option Value → zσ → Prop) (h : zlS E (zp3 P r) args s K) : zp3 P r args s K := by
  obtain ⟨b, m, hg, h⟩ := h
  unfold zp3 zf3 at *
  split at h
  · exact ⟨h.1, by have := h.2; dsimp only at this; rw [zlS_back hg] at this; exact this⟩
  · exact h.elim
/-! ===== static methods: no heap at all ===== -/
def zIhp {σ : Type} (Γ : zΓ σ) (i : Instr) (st : List Value) (s : σ) (k : List Value → σ → Prop) : Prop := match i with
  | .invokestatic x => zcallS Γ x st s k
  | _ => False
theorem zIhp_mono {σ : Type} {Γ : zΓ σ} (hΓ : ∀ q ∈ Γ, zTm q.2.2.2) : zMono (zIhp Γ) := by
  intro i st s k k' hk h
  cases i <;> dsimp only [zIhp] at h ⊢
  case invokestatic x =>
    unfold zcallS at h ⊢
    split at h
    · rename_i q hq
      refine ⟨h.1, ?_⟩
      have h := h.2
      split at h
      · exact ⟨h.1, hΓ _ (zlk_mem hq) _ _ _ _ (fun v s => hk _ _) h.2⟩
      · exact h
    · exact h
  all_goals exact h
def zIok (l : Launch) (E : zEnv) (b0 : Nat) (own : String) (d0 : Nat) (Γ : zΓ zσ) : Prop := ∀ q ∈ Γ, zTm q.2.2.2 ∧ q.2.1 = false ∧ zInv l E b0 own d0 (.invokestatic q.1) q.2.2.1 none 0 0 q.2.2.2
def zIRp (E : zEnv) (b0 : Nat) (s0 : State) (q : zσ) (H : Heap) (locs : List Loc) (k z : Nat) : Prop := zRep E b0 q.1 q.2 H ∧ va_S (zfix b0) s0.heap H locs ∧ k = 0 ∧ z = 0
set_option maxHeartbeats 4000000 in
theorem zS_MS {l : Launch} {E : zEnv} {b0 d nL na : Nat} {own : String} {y : MethodName} {cc : ByteArray} {ret : Option FieldType} {T : zT zσ} {Γ : zΓ zσ} (hy : y.cls = own) (hpl : plainName y.cls = true) (hΓ : zIok l E b0 own d Γ)
    (hargs : zTa T na) (hna : na ≤ nL)
    (hbody : ∀ (as : List Value) (s : zσ) (K : Option Value → zσ → Prop), T as s K → ∀ S : Nat → zL → List Value → zσ → Prop, zMono (zIhp Γ) → zClosed ret (zIhp Γ) K cc S → S 0 (zent as nL) [] s) :
    zMS l E b0 d y (ws_ y cc nL ret) 0 0 T := by
  intro as s K hT
  obtain ⟨ha1, ha2⟩ := hargs _ _ _ hT
  refine Met.ofW (cc := cc) (maxL := nL) (ret := ret) hpl rfl ?_
  intro p e s0 m args below meth c s₁ B hml hv
  obtain ⟨rfl, hW, hrep⟩ := hv
  have hx := B.exec
  have hb := B.bytes
  have hr := B.returns
  have hts := atoms_spec (ws := ws_ y cc nL ret) B.pre
  have hts : ∀ w ∈ lw_all, w.before _ s0 = true := fun w h => hts w (List.mem_cons_of_mem _ h)
  have hown : s0.vm.findClass own = some m.cls := by rw [← hy]; exact findClass_of_methodNamed B.named
  have hlocks := B.notSynchronized
  have hC : zCtx E b0 own d cc nL p (headSpec (ws_ y cc nL ret) (zrm d 0 0)).room s0 m (as.toArray) c := ⟨hx, hb, hml, hown, hts, hW, Nat.le_refl _, Nat.le_refl _⟩
  rw [lg_entry_eq]
  have hL := zent_Lr (as := as) (nL := nL) (by omega) ha2
  have hm := zIhp_mono (fun q hq => (hΓ q hq).1)
  refine hbody as s _ hT (zS p l e _ s0 m _ below meth c _ nL (zIRp E b0 s0)) hm (zclosed (K := K) (Qc := zQc E b0 K) (mc := 0) (ms := 0) (free := zfix b0) hx hb hr hlocks ?_ (fun _ _ _ h => h) ?_) (zent_len (by omega)) s0.heap [] 0 0 _ hL ⟨hrep, va_S.rf, rfl, rfl⟩
  · intro v s' H locs k z ⟨hrep', hS', hk, hz⟩ hK
    exact ⟨⟨by omega, by omega⟩, hS'.2.2, fun t ht hWt => ⟨v, _, rfl, hK, by rw [ht]; exact hrep', hS'.F ht⟩⟩
  · intro i len pc L st s hd hlen h
    cases i <;> dsimp only [zIhp] at h <;> intro hn H locs k z ls hL ⟨hrep, hS, hk, hz⟩
    case invokestatic x =>
      have e3 : len = 3 := by simpa [zlen] using hlen
      subst e3
      unfold zcallS at h
      split at h
      case h_2 => exact h.elim
      rename_i q hq
      obtain ⟨hqb, h⟩ := h
      split at h
      case h_2 => exact h.elim
      rename_i r hr
      obtain ⟨hf, h⟩ := h
      obtain ⟨e1, e2⟩ := zpop_eq _ _ _ _ hr
      have e1 : st = r.1.reverse ++ r.2 := by simpa using e1
      subst hk; subst hz
      rw [e1]
      refine (hΓ _ (zlk_mem hq)).2.2 p e _ s0 m _ below meth c cc nL _ H locs 0 0 ls pc r.1 r.2 s hC (hL.1.1.trans hn) hd hrep hS (by rw [e2]; rfl) (zfew_sum _ _ hf) (Nat.zero_le _) (Nat.zero_le _) (fun _ q => by cases q) ?_
      refine (hΓ _ (zlk_mem hq)).1 _ _ _ _ (fun v m' hm H' locs' hrep' hS' => ?_) h
      exact hm hn H' locs' 0 0 ls hL ⟨hrep', hS', rfl, rfl⟩
    all_goals exact h.elim
