/-! plain laws: mates, all men -/
theorem yasks_vals {w : Nat → Int32} (hN : vp_in (w 96) 9) {V : Int32 → Prop} : ∀ (n : Nat) (a : Int32) (ask man : Nat → Int32), V a → (∀ t, t < 8 → V (man t)) → ∀ t, t < 8 → V ((yasks w n a ask man).2 t)
  | 0, _, _, _, _, h => h
  | n + 1, a, ask, man, ha, h => by
    unfold yasks
    split
    · exact h
    · split
      · exact h
      · rename_i c2
        rcases ybest_p (asked := ask a.toNatClampNeg) (M := a.toNatClampNeg) hN with e | ⟨T, hT, e, -⟩
        · exact absurd e c2
        · rw [e, nI_clamp (by omega)]
          split
          · refine yasks_vals hN n _ _ _ (h T hT) (fun t ht => ?_)
            by_cases d : t = T
            · rw [d, upd_s]; exact ha
            · rw [upd_n d]; exact h t ht
          · exact yasks_vals hN n _ _ _ ha h
theorem ymates_eq {w ask ref man : Nat → Int32} (hN : vp_in (w 96) 9) : ∀ k, k ≤ 4 → (ymates w ask man k).2 = (ymatesX w ref man k).2 ∧ yrel (ymates w ask man k).1 (ymatesX w ref man k).1 (ymates w ask man k).2 (-1) ∧ ∀ t, t < 8 → ∀ m, k ≤ m → m < 4 → (ymates w ask man k).2 t ≠ nI m
  | 0, _ => by
    have e1 : ∀ t, t < 8 → (ymates w ask man 0).2 t = -1 := fun t ht => if_pos ht
    refine ⟨rfl, ⟨fun m t hm4 ht => ⟨fun q => absurd q (nI_m1 (by omega)), fun _ => ?_⟩, fun t t' ht _ _ h => absurd (e1 t ht) h⟩, fun t ht m _ hm4 q => ?_⟩
    · rw [e1 t ht]
      have a1 : (ymates w ask man 0).1 m = 0 := if_pos hm4
      have a2 : (ymatesX w ref man 0).1 m = 0 := if_pos hm4
      rw [a1, a2, ybit_0, decide_eq_false (fun q => nI_m1 (show m < 1000 by omega) q.symm)]
      rfl
    · rw [e1 t ht] at q
      exact nI_m1 (show m < 1000 by omega) q.symm
  | k + 1, hk => by
    obtain ⟨h1, h2, h3⟩ := ymates_eq (ask := ask) (ref := ref) (man := man) hN k (by omega)
    have hy := ymates_man (ask := ask) (man := man) hN k (by omega)
    have hrel : yrel (ymates w ask man k).1 (ymatesX w ref man k).1 (ymates w ask man k).2 (nI k) := by
      refine ⟨fun m t hm4 ht => ⟨fun q => ?_, fun _ => (h2.1 m t hm4 ht).2 (nI_m1 (by omega))⟩, h2.2⟩
      have hm0 : m = k := (nI_eq (by omega) (by omega)).mp q
      subst hm0
      have hno := h3 t ht m (Nat.le_refl _) hm4
      have := (h2.1 m t hm4 ht).2 (nI_m1 (by omega))
      rw [decide_eq_false hno, Bool.or_false] at this
      exact ⟨this, hno⟩
    have hl := yleft_le (ask := (ymates w ask man k).1)
    obtain ⟨g1, g2⟩ := yask_eq hN 33 (nI k) _ _ _ (Or.inr (vp_in_nI (by omega) (by decide))) hy hrel (by omega)
    have e : (ymates w ask man (k + 1)) = yasks w 33 (nI k) (ymates w ask man k).1 (ymates w ask man k).2 := rfl
    have e' : (ymatesX w ref man (k + 1)) = yaskX w 33 (nI k) (ymatesX w ref man k).1 (ymatesX w ref man k).2 := rfl
    rw [e, e', ← h1]
    refine ⟨g1, g2, fun t ht m hkm hm4 => ?_⟩
    exact yasks_vals hN (V := fun v => ∀ m, k + 1 ≤ m → m < 4 → v ≠ nI m) 33 (nI k) _ _ (fun m h4 h5 q => by
      have := (nI_eq (a := k) (b := m) (by omega) (by omega)).mp q
      omega) (fun t ht m h4 h5 => h3 t ht m (by omega) h5) t ht m hkm hm4
/-- nobody holds two tools -/
theorem ymates_one {w ask man : Nat → Int32} (hN : vp_in (w 96) 9) {k t t' : Nat} (hk : k ≤ 4) (ht : t < 8) (ht' : t' < 8) (h : (ymates w ask man k).2 t = (ymates w ask man k).2 t') (hne : (ymates w ask man k).2 t ≠ -1) : t = t' := (ymates_eq (ref := ask) hN k hk).2.1.2 t t' ht ht' h hne
/-- arrays that differ beyond their ends make no difference -/
theorem yaskX_c {w : Nat → Int32} (hN : vp_in (w 96) 9) : ∀ (n : Nat) (a : Int32) (ref ref' man man' : Nat → Int32), (a = -1 ∨ vp_in a 4) → yman man → (∀ m, m < 4 → ref m = ref' m) → (∀ t, t < 8 → man t = man' t) → (∀ m, m < 4 → (yaskX w n a ref man).1 m = (yaskX w n a ref' man').1 m) ∧ ∀ t, t < 8 → (yaskX w n a ref man).2 t = (yaskX w n a ref' man').2 t
  | 0, _, _, _, _, _, _, _, h1, h2 => ⟨h1, h2⟩
  | n + 1, a, ref, ref', man, man', ha, hy, h1, h2 => by
    unfold yaskX
    rcases ha with rfl | ha
    · rw [if_pos rfl, if_pos rfl]
      exact ⟨h1, h2⟩
    · obtain ⟨M, hM, rfl⟩ := vp_in_of ha (by decide)
      have hne : ¬ nI M = -1 := nI_m1 (by omega)
      rw [if_neg hne, if_neg hne, nI_clamp (by omega), ← h1 M hM]
      rcases ybest_p (asked := ref M) (M := M) hN with e | ⟨T, hT, e, hbit⟩
      · rw [if_pos e, if_pos e]
        exact ⟨h1, h2⟩
      · have hTn : ¬ nI T = -1 := nI_m1 (by omega)
        rw [e, if_neg hTn, if_neg hTn, nI_clamp (by omega), ← h2 T hT]
        have hup : ∀ v : Int32, ∀ t, t < 8 → upd man T v t = upd man' T v t := fun v t ht => by
          by_cases d : t = T
          · rw [d, upd_s, upd_s]
          · rw [upd_n d, upd_n d]; exact h2 t ht
        have hur : ∀ (O : Nat) (v : Int32), ∀ m, m < 4 → upd ref O v m = upd ref' O v m := fun O v m hm4 => by
          by_cases d : m = O
          · rw [d, upd_s, upd_s]
          · rw [upd_n d, upd_n d]; exact h1 m hm4
        split
        · rcases hy T hT with ho | ho
          · rw [ho, if_pos rfl, if_pos rfl]
            exact yaskX_c hN n _ _ _ _ _ (Or.inl rfl) (yman_u hy ha) h1 (hup _)
          · obtain ⟨O, hO, eO⟩ := vp_in_of ho (by decide)
            have hOn : ¬ nI O = -1 := nI_m1 (by omega)
            rw [eO, if_neg hOn, if_neg hOn, nI_clamp (by omega), ← h1 O hO]
            exact yaskX_c hN n _ _ _ _ _ (Or.inr (vp_in_nI hO (by decide))) (yman_u hy ha) (hur O _) (hup _)
        · exact yaskX_c hN n _ _ _ _ _ (Or.inr ha) hy (hur M _) h2
