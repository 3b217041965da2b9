/-! ===== ToolUnion's state ===== -/
/-- I: ints (ToolUnion's by field number, a Yard's by xyi); A: the block's arrays by place (a Yard's by xya); V: ToolUnion's references that change, by field number; n, g: the heap's size, the cells outside the block; m: what the model holds (0: now, 1: in thought) -/
abbrev zX : Type := (Nat → Int32) × (Nat → Nat → Int32) × (Nat → Option Nat) × Nat × zG × (Nat → zM)
def zX.I (s : zX) : Nat → Int32 := s.1
def zX.A (s : zX) : Nat → Nat → Int32 := s.2.1
def zX.V (s : zX) : Nat → Option Nat := s.2.2.1
def zX.n (s : zX) : Nat := s.2.2.2.1
def zX.g (s : zX) : zG := s.2.2.2.2.1
def zX.m (s : zX) : Nat → zM := s.2.2.2.2.2
def xI (s : zX) (j : Nat) (v : Int32) : zX := (upd s.I j v, s.A, s.V, s.n, s.g, s.m)
def xA (s : zX) (h i : Nat) (v : Int32) : zX := (s.I, fun q => if q = h then upd (s.A h) i v else s.A q, s.V, s.n, s.g, s.m)
def xB (s : zX) (h : Nat) (f : Nat → Int32) : zX := (s.I, fun q => if q = h then f else s.A q, s.V, s.n, s.g, s.m)
def xV (s : zX) (j : Nat) (v : Option Nat) : zX := (s.I, s.A, fun q => if q = j then v else s.V q, s.n, s.g, s.m)
def xg (s : zX) (a : Nat) (o : va_E) : zX := (s.I, s.A, s.V, s.n, zup s.g a o, s.m)
def xnew (s : zX) (o : va_E) : zX := (s.I, s.A, s.V, s.n + 1, zup s.g s.n o, s.m)
def xM (s : zX) (m : Nat → zM) : zX := (s.I, s.A, s.V, s.n, s.g, m)
def xyo (y : Nat) : Nat := 28 + 7 * y
def xya (y j : Nat) : Nat := 29 + 7 * y + j
def xyi (y j : Nat) : Nat := 100 + 20 * y + j
def xrf (l : List (Option Nat)) : Nat → Option Nat := fun i => l.getD i none
/-- a field of ToolUnion: 0 an int, 1 a reference that changes, h + 2: cell h of the block -/
def xfk : List Nat := [3, 0, 4, 9, 10, 11, 1, 1, 1, 1, 0, 0, 0, 0, 0, 0, 1, 1, 1, 1, 22, 23, 24, 25, 26, 27, 28, 0, 0, 0, 0, 29, 30, 37, 44, 51, 52, 0, 0, 0, 0, 53, 54, 55, 56, 57, 58, 59, 60, 61, 0, 62, 63, 64, 1, 1, 1, 1]
def xfield (b : Nat) (s : zX) (j : Nat) : Value := match xfk.getD j 0 with
  | 0 => .int (s.I j)
  | 1 => va_rf (s.V j)
  | h + 2 => .ref (b + h)
def xobj (b : Nat) (s : zX) : List Value := (List.range 58).map (xfield b s)
def xyfield (b : Nat) (s : zX) (y j : Nat) : Value := if j < 6 then .ref (b + xya y j) else if j < 15 then .int (s.I (xyi y j)) else .ref b
def xyobj (b : Nat) (s : zX) (y : Nat) : List Value := (List.range 16).map (xyfield b s y)
/-- the block's arrays: type (0 int, 1 boolean, 2 byte) and length; none: no array of numbers -/
def xarr : List (Option (Nat × Nat)) := [none, some (2, 400), none, none, none, none, none, none, none, none, none, none, none, none, none, none, none, none, none, none, some (0, 8), some (0, 8), some (0, 8), some (0, 8), some (0, 8), some (0, 4), some (0, 4), some (0, 10), none, some (0, 8), some (0, 8), some (0, 8), some (0, 8), some (0, 4), some (0, 8), none, some (0, 8), some (0, 8), some (0, 8), some (0, 8), some (0, 4), some (0, 8), none, some (0, 8), some (0, 8), some (0, 8), some (0, 8), some (0, 4), some (0, 8), some (0, 800), none, some (1, 32), some (1, 256), some (2, 65536), some (0, 4), some (0, 8), some (0, 4), some (0, 12), some (0, 12), some (0, 256), none, none, some (0, 5)]
def xblk (E : zEnv) (b : Nat) (s : zX) (h : Nat) : Option va_E :=
  if h = 0 then some (.inr (1, xobj b s)) else if h = 28 then some (.inr (2, xyobj b s 0)) else if h = 35 then some (.inr (2, xyobj b s 1)) else if h = 42 then some (.inr (2, xyobj b s 2))
  else match xarr.getD h none with
  | some q => some (.inl (E.dA q.1, q.2, .inl (s.A h)))
  | none => none
/-- every known cell -/
def xG (E : zEnv) (b : Nat) (s : zX) : zG := fun a => if b ≤ a ∧ a ≤ b + 62 then (match xblk E b s (a - b) with | some c => some c | none => s.g a) else s.g a
def xfld (o : Option va_E) (ci j : Nat) : Option Value := match o with
  | some (.inr (c, fs)) => if c = ci then fs[j]? else none
  | _ => none

theorem xG_at {E : zEnv} {b : Nat} {s : zX} {h : Nat} {c : va_E} (hh : h ≤ 62) (hc : xblk E b s h = some c) : xG E b s (b + h) = some c := by
  unfold xG
  rw [if_pos ⟨by omega, by omega⟩, Nat.add_sub_cancel_left, hc]
theorem xG_0 {E : zEnv} {b : Nat} {s : zX} : xG E b s b = some (.inr (1, xobj b s)) := xG_at (h := 0) (by omega) rfl
theorem xG_y {E : zEnv} {b : Nat} {s : zX} {y : Nat} (hy : y < 3) : xG E b s (b + xyo y) = some (.inr (2, xyobj b s y)) := by
  rcases (by omega : y = 0 ∨ y = 1 ∨ y = 2) with rfl | rfl | rfl <;> exact xG_at (by decide) rfl
theorem xG_out {E : zEnv} {b : Nat} {s : zX} {a : Nat} (h : b + 62 < a) : xG E b s a = s.g a := by
  unfold xG
  rw [if_neg (by omega)]
theorem xobj_get {b : Nat} {s : zX} {j : Nat} (hj : j < 58) : (xobj b s)[j]? = some (xfield b s j) := by
  unfold xobj
  rw [List.getElem?_map, List.getElem?_range hj]; rfl
theorem xobj_len {b : Nat} {s : zX} : (xobj b s).length = 58 := by simp [xobj]
theorem xyobj_get {b : Nat} {s : zX} {y j : Nat} (hj : j < 16) : (xyobj b s y)[j]? = some (xyfield b s y j) := by
  unfold xyobj
  rw [List.getElem?_map, List.getElem?_range hj]; rfl
theorem xyobj_len {b : Nat} {s : zX} {y : Nat} : (xyobj b s y).length = 16 := by simp [xyobj]
theorem xfld_0 {E : zEnv} {b : Nat} {s : zX} {j : Nat} (hj : j < 58) : xfld (xG E b s b) 1 j = some (xfield b s j) := by
  rw [xG_0]
  exact xobj_get hj
theorem xfld_y {E : zEnv} {b : Nat} {s : zX} {y j : Nat} (hy : y < 3) (hj : j < 16) : xfld (xG E b s (b + xyo y)) 2 j = some (xyfield b s y j) := by
  rw [xG_y hy]
  exact xyobj_get hj
theorem xG_A {E : zEnv} {b : Nat} {s : zX} {h t N : Nat} (hh : xarr.getD h none = some (t, N)) : xG E b s (b + h) = some (.inl (E.dA t, N, .inl (s.A h))) := by
  have h62 : h ≤ 62 := by
    rcases Nat.lt_or_ge h 63 with q | q
    · omega
    · have : xarr.getD h none = none := by
        rw [List.getD_eq_getElem?_getD, List.getElem?_eq_none (by show 63 ≤ h; exact q)]; rfl
      rw [this] at hh; cases hh
  refine xG_at h62 ?_
  unfold xblk
  rw [hh]
  have e : ∀ {x : Nat}, xarr.getD x none = none → h ≠ x := fun q w => by rw [w, q] at hh; cases hh
  rw [if_neg (e rfl), if_neg (e rfl), if_neg (e rfl), if_neg (e rfl)]
