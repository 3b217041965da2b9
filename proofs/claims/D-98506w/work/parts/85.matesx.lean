/-! plain laws: mates, by who refused -/
theorem ybest_c {w : Nat → Int32} {a a' : Int32} {M : Nat} (hN : vp_in (w 96) 9) (h : ∀ t, t < 8 → ybit a (nI t) = ybit a' (nI t)) : ybest w a M = ybest w a' M := by
  obtain ⟨N, hN9, eN⟩ := vp_in_of hN (by decide)
  unfold ybest
  rw [eN, nI_clamp (by omega)]
  refine yfold_c N (fun t b ht => ?_)
  unfold ybetter
  rw [h t (by omega)]
def yaskX (w : Nat → Int32) : Nat → Int32 → (Nat → Int32) → (Nat → Int32) → (Nat → Int32) × (Nat → Int32)
  | 0, _, ref, man => (ref, man)
  | n + 1, m, ref, man => if m = -1 then (ref, man) else
    if ybest w (ref m.toNatClampNeg) m.toNatClampNeg = -1 then (ref, man) else
    if man (ybest w (ref m.toNatClampNeg) m.toNatClampNeg).toNatClampNeg = -1 ∨ yrather w (ybest w (ref m.toNatClampNeg) m.toNatClampNeg).toNatClampNeg m.toNatClampNeg (man (ybest w (ref m.toNatClampNeg) m.toNatClampNeg).toNatClampNeg).toNatClampNeg = true then
      yaskX w n (man (ybest w (ref m.toNatClampNeg) m.toNatClampNeg).toNatClampNeg) (if man (ybest w (ref m.toNatClampNeg) m.toNatClampNeg).toNatClampNeg = -1 then ref else upd ref (man (ybest w (ref m.toNatClampNeg) m.toNatClampNeg).toNatClampNeg).toNatClampNeg (ref (man (ybest w (ref m.toNatClampNeg) m.toNatClampNeg).toNatClampNeg).toNatClampNeg ||| yshl (ybest w (ref m.toNatClampNeg) m.toNatClampNeg).toNatClampNeg)) (upd man (ybest w (ref m.toNatClampNeg) m.toNatClampNeg).toNatClampNeg m)
    else yaskX w n m (upd ref m.toNatClampNeg (ref m.toNatClampNeg ||| yshl (ybest w (ref m.toNatClampNeg) m.toNatClampNeg).toNatClampNeg)) man
/-- asked = refused and held; the one who asks holds nothing; nobody holds two -/
def yrel (ask ref man : Nat → Int32) (a : Int32) : Prop := (∀ m t, m < 4 → t < 8 → (nI m = a → ybit (ask m) (nI t) = ybit (ref m) (nI t) ∧ man t ≠ nI m) ∧ (nI m ≠ a → ybit (ask m) (nI t) = (ybit (ref m) (nI t) || decide (man t = nI m)))) ∧ ∀ t t', t < 8 → t' < 8 → man t = man t' → man t ≠ -1 → t = t'
theorem yask_eq {w : Nat → Int32} (hN : vp_in (w 96) 9) : ∀ (n : Nat) (a : Int32) (ask ref man : Nat → Int32), (a = -1 ∨ vp_in a 4) → yman man → yrel ask ref man a → yleft ask < n → (yasks w n a ask man).2 = (yaskX w n a ref man).2 ∧ yrel (yasks w n a ask man).1 (yaskX w n a ref man).1 (yasks w n a ask man).2 (-1)
  | 0, _, _, _, _, _, _, _, h => by omega
  | n + 1, a, ask, ref, man, ha, hy, hr, hl => by
    unfold yasks yaskX
    rcases ha with rfl | ha
    · rw [if_pos rfl, if_pos rfl]
      exact ⟨rfl, hr⟩
    · obtain ⟨M, hM, rfl⟩ := vp_in_of ha (by decide)
      have hne : ¬ nI M = -1 := nI_m1 (by omega)
      rw [if_neg hne, if_neg hne, nI_clamp (by omega)]
      have hb : ybest w (ref M) M = ybest w (ask M) M := ybest_c hN (fun t ht => ((hr.1 M t hM ht).1 rfl).1.symm)
      rw [hb]
      rcases ybest_p (asked := ask M) (M := M) hN with e | ⟨T, hT, e, hbit⟩
      · rw [if_pos e, if_pos e]
        refine ⟨rfl, fun m t hm4 ht => ⟨fun q => absurd q (nI_m1 (by omega)), fun _ => ?_⟩, hr.2⟩
        by_cases c : nI m = nI M
        · obtain ⟨h1, h2⟩ := (hr.1 m t hm4 ht).1 c
          rw [h1, decide_eq_false h2, Bool.or_false]
        · exact (hr.1 m t hm4 ht).2 c
      · have hTn : ¬ nI T = -1 := nI_m1 (by omega)
        rw [e, if_neg hTn, if_neg hTn, nI_clamp (by omega)]
        have hl2 := yleft_lt hM hT hbit
        have hMM : ∀ m, m < 4 → (nI m = nI M ↔ m = M) := fun m hm4 => nI_eq (by omega) (by omega)
        have hnoM : ∀ t, t < 8 → man t ≠ nI M := fun t ht => ((hr.1 M t hM ht).1 rfl).2
        by_cases c : man T = -1 ∨ yrather w T M (man T).toNatClampNeg = true
        · rw [if_pos c, if_pos c]
          have huniq : ∀ t t', t < 8 → t' < 8 → upd man T (nI M) t = upd man T (nI M) t' → upd man T (nI M) t ≠ -1 → t = t' := by
            intro t t' ht ht' h1 h2
            by_cases d : t = T
            · by_cases d' : t' = T
              · rw [d, d']
              · rw [d, upd_s, upd_n d'] at h1
                exact absurd h1.symm (hnoM t' ht')
            · by_cases d' : t' = T
              · rw [d', upd_s, upd_n d] at h1
                exact absurd h1 (hnoM t ht)
              · rw [upd_n d] at h1 h2
                rw [upd_n d'] at h1
                exact hr.2 t t' ht ht' h1 h2
          rcases hy T hT with ho | ho
          · rw [ho, if_pos rfl]
            refine yask_eq hN n _ _ _ _ (Or.inl rfl) (yman_u hy ha) ⟨fun m t hm4 ht => ⟨fun q => absurd q (nI_m1 (by omega)), fun _ => ?_⟩, huniq⟩ (by omega)
            by_cases d : m = M
            · subst d
              rw [upd_s, ybit_or (by omega) (by omega), ((hr.1 m t hM ht).1 rfl).1]
              congr 1
              by_cases k : t = T
              · subst k; rw [upd_s]; simp
              · rw [upd_n k, decide_eq_false k, decide_eq_false (hnoM t ht)]
            · rw [upd_n d, (hr.1 m t hm4 ht).2 (fun q => d ((hMM m hm4).mp q))]
              congr 1
              by_cases k : t = T
              · subst k
                rw [upd_s, ho, decide_eq_false (fun q => nI_m1 (show m < 1000 by omega) q.symm), decide_eq_false (fun q => d ((hMM m hm4).mp q.symm))]
              · rw [upd_n k]
          · obtain ⟨O, hO, eO⟩ := vp_in_of ho (by decide)
            have hOn : ¬ nI O = -1 := nI_m1 (by omega)
            have hOM : O ≠ M := fun q => hnoM T hT (by rw [eO, q])
            rw [eO, if_neg hOn, nI_clamp (by omega)]
            refine yask_eq hN n _ _ _ _ (Or.inr (vp_in_nI hO (by decide))) (yman_u hy ha) ⟨fun m t hm4 ht => ⟨fun q => ?_, fun q => ?_⟩, huniq⟩ (by omega)
            · have hm0 : m = O := (nI_eq (by omega) (by omega)).mp q
              subst hm0
              rw [upd_n hOM, upd_s, ybit_or (by omega) (by omega), (hr.1 m t hm4 ht).2 (fun q => hOM ((hMM m hm4).mp q))]
              refine ⟨?_, ?_⟩
              · congr 1
                by_cases k : t = T
                · subst k; rw [eO]; simp
                · rw [decide_eq_false k, decide_eq_false (fun z => k (hr.2 t T ht hT (by rw [z, eO]) (by rw [z]; exact hOn)))]
              · by_cases k : t = T
                · subst k; rw [upd_s]; exact fun z => hOM ((hMM m hm4).mp z.symm)
                · rw [upd_n k]; exact fun z => k (hr.2 t T ht hT (by rw [z, eO]) (by rw [z]; exact hOn))
            · have hm0 : m ≠ O := fun z => q (by rw [z])
              rw [upd_n (f := ref) hm0]
              by_cases d : m = M
              · subst d
                rw [upd_s, ybit_or (by omega) (by omega), ((hr.1 m t hM ht).1 rfl).1]
                congr 1
                by_cases k : t = T
                · subst k; rw [upd_s]; simp
                · rw [upd_n k, decide_eq_false k, decide_eq_false (hnoM t ht)]
              · rw [upd_n d, (hr.1 m t hm4 ht).2 (fun q => d ((hMM m hm4).mp q))]
                congr 1
                by_cases k : t = T
                · subst k
                  rw [upd_s, eO, decide_eq_false (fun z => q z.symm), decide_eq_false (fun z => d ((hMM m hm4).mp z.symm))]
                · rw [upd_n k]
        · rw [if_neg c, if_neg c]
          refine yask_eq hN n _ _ _ _ (Or.inr ha) hy ⟨fun m t hm4 ht => ⟨fun q => ?_, fun q => ?_⟩, hr.2⟩ (by omega)
          · have hm0 : m = M := (hMM m hm4).mp q
            subst hm0
            rw [upd_s, upd_s, ybit_or (by omega) (by omega), ybit_or (by omega) (by omega), ((hr.1 m t hM ht).1 rfl).1]
            exact ⟨rfl, hnoM t ht⟩
          · have hm0 : m ≠ M := fun z => q (by rw [z])
            rw [upd_n hm0, upd_n hm0]
            exact (hr.1 m t hm4 ht).2 q
def ymatesX (w : Nat → Int32) (ref man : Nat → Int32) : Nat → (Nat → Int32) × (Nat → Int32)
  | 0 => (fun j => if j < 4 then 0 else ref j, fun j => if j < 8 then -1 else man j)
  | m + 1 => yaskX w 33 (nI m) (ymatesX w ref man m).1 (ymatesX w ref man m).2
theorem ybit_0 {k : Int32} : ybit 0 k = false := by
  unfold ybit
  rw [decide_eq_false_iff_not]
  simp
