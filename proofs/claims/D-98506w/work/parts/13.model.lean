/-! ===== ToolUnionModel: its one object and its arrays: ints by field number, arrays by number ===== -/
/-- w: array 1; kept: array 2; back: array 3; lying: array 4; backMany: int 4; hasImage: int 5; freshLine: array 5; freshStep: array 6; freshRow: array 7; tape: array 8; pile: array 9; facts: array 10; reading: int 12; lines: int 13; steps: int 14; rows: int 15; taped: int 16; at: int 17; token: int 18; tokenAt: int 19; value: int 20; wrong: int 21; wrongAt: int 22; faultKind: int 23; depth: int 24; faultPlace: int 25; numbered: int 26; refusedAt: int 27; refusedHour: int 28; workedMany: int 29; menBusy: int 30; together: array 11; reach: array 12; serving: array 13; farOf: array 14; manOf: array 15; askedBy: array 16; ahead: array 17; onwards: array 18 -/
abbrev zM : Type := (Nat → Int32) × (Nat → Nat → Int32)
def zF (m : zM) (j : Nat) (v : Int32) : zM := (upd m.1 j v, m.2)
def zA (m : zM) (h i : Nat) (v : Int32) : zM := (m.1, fun q => if q = h then upd (m.2 h) i v else m.2 q)
def zMlen : Nat → Nat := fun h => [0, 2834, 2834, 576, 96, 64, 820, 100, 400, 420, 11, 256, 4096, 32, 65536, 8, 4, 8, 256].getD h 0
def zMbl : Nat → Bool := fun h => h == 11 || h == 12 || h == 13
def zMh : List (Option Nat) := [some 1, some 2, some 3, some 4, none, none, some 5, some 6, some 7, some 8, some 9, some 10, none, none, none, none, none, none, none, none, none, none, none, none, none, none, none, none, none, none, none, some 11, some 12, some 13, some 14, some 15, some 16, some 17, some 18]
def zMfield (b : Nat) (m : zM) (j : Nat) : Value := match zMh.getD j none with
  | some h => .ref (b + h)
  | none => .int (m.1 j)
def zMobj (b : Nat) (m : zM) : List Value := (List.range 39).map (zMfield b m)
def zMcell (E : zEnv) (b : Nat) (m : zM) (h : Nat) : va_E := if h = 0 then .inr (0, zMobj b m) else .inl (E.dA (if zMbl h = true then 1 else 0), zMlen h, .inl (m.2 h))
def zMG (E : zEnv) (b : Nat) (m : zM) (g : zG) : zG := fun a => if b ≤ a ∧ a ≤ b + 18 then some (zMcell E b m (a - b)) else g a
def zlk {α : Type} (l : List (Nat × α)) (i : Nat) : Option α := match l with
  | [] => none
  | q :: t => if i = q.1 then some q.2 else zlk t i
def zfew : List Value → Nat → Bool
  | [], _ => true
  | .int _ :: t, n + 1 => zfew t n
  | .ref _ :: t, n + 1 => zfew t n
  | .null :: t, n + 1 => zfew t n
  | _, _ => false
def zpop : Nat → List Value → List Value → Option (List Value × List Value)
  | 0, acc, st => some (acc, st)
  | n + 1, acc, v :: st => zpop n (v :: acc) st
  | _ + 1, _, [] => none
/-- the calls' table: entry, through an object or not, how many arguments (the receiver not counted), what it does -/
abbrev zΓ (σ : Type) : Type := List (Nat × Bool × Nat × zT σ)
def zcallS {σ : Type} (Γ : zΓ σ) (i : Nat) (st : List Value) (s : σ) (k : List Value → σ → Prop) : Prop := match zlk Γ i with
  | some q => q.1 = false ∧ match zpop q.2.1 [] st with
    | some r => zfew r.2 8 = true ∧ q.2.2 r.1 s (fun v s' => k (v.toList ++ r.2) s')
    | none => False
  | none => False
def zcallV {σ : Type} (b : Nat) (Γ : zΓ σ) (i : Nat) (st : List Value) (s : σ) (k : List Value → σ → Prop) : Prop := match zlk Γ i with
  | some q => q.1 = true ∧ match zpop q.2.1 [] st with
    | some (as, .ref a :: r) => a = b ∧ zfew r 8 = true ∧ q.2.2 as s (fun v s' => k (v.toList ++ r) s')
    | _ => False
  | none => False
/-- getfield, putfield by pool entry: the field's number -/
def zMfl : List (Nat × Nat) := [(7, 0), (13, 1), (16, 2), (19, 3), (22, 6), (25, 7), (28, 8), (31, 9), (34, 10), (37, 11), (40, 25), (44, 31), (48, 32), (51, 33), (55, 34), (58, 35), (61, 36), (64, 37), (67, 38), (81, 4), (104, 16), (107, 17), (110, 19), (155, 12), (197, 18), (209, 20), (212, 21), (215, 22), (224, 14), (227, 24), (259, 13), (265, 26), (272, 15), (285, 23), (355, 30), (367, 29), (377, 27), (380, 28), (511, 5)]
def zMci : List (Nat × Int32) := [(54, 65536), (87, 1664525), (88, 1013904223)]
def zMcs : List (Nat × Nat) := [(147, 0), (149, 1), (151, 2), (153, 3), (158, 4), (160, 5), (162, 6), (164, 7), (166, 8), (123, 9), (129, 10), (131, 11), (133, 12), (135, 13), (137, 14), (139, 15), (141, 16), (143, 17), (145, 18), (171, 19), (173, 20), (175, 21), (177, 22), (179, 23), (181, 24), (183, 25)]
def zMhp (E : zEnv) (b : Nat) (Γ : zΓ zM) (i : Instr) (st : List Value) (m : zM) (k : List Value → zM → Prop) : Prop := match i with
  | .getfield x => match zlk zMfl x, st with
    | some j, .ref a :: r => a = b ∧ k (zMfield b m j :: r) m
    | _, _ => False
  | .putfield x => match zlk zMfl x, st with
    | some j, .int v :: .ref a :: r => a = b ∧ zMh.getD j none = none ∧ (j = 5 → v = 0 ∨ v = 1) ∧ k r (zF m j v)
    | _, _ => False
  | .iaload => match st with
    | .int j :: .ref a :: r => b < a ∧ a ≤ b + 18 ∧ zMbl (a - b) = false ∧ vp_in j (zMlen (a - b)) ∧ k (.int (m.2 (a - b) j.toNatClampNeg) :: r) m
    | _ => False
  | .baload => match st with
    | .int j :: .ref a :: r => b < a ∧ a ≤ b + 18 ∧ zMbl (a - b) = true ∧ vp_in j (zMlen (a - b)) ∧ k (.int (m.2 (a - b) j.toNatClampNeg) :: r) m
    | _ => False
  | .iastore => match st with
    | .int v :: .int j :: .ref a :: r => b < a ∧ a ≤ b + 18 ∧ zMbl (a - b) = false ∧ vp_in j (zMlen (a - b)) ∧ k r (zA m (a - b) j.toNatClampNeg v)
    | _ => False
  | .bastore => match st with
    | .int v :: .int j :: .ref a :: r => b < a ∧ a ≤ b + 18 ∧ zMbl (a - b) = true ∧ vp_in j (zMlen (a - b)) ∧ (v = 0 ∨ v = 1) ∧ k r (zA m (a - b) j.toNatClampNeg v)
    | _ => False
  | .ldc x => match zlk zMci x with
    | some v => k (.int v :: st) m
    | none => match zlk zMcs x with
      | some j => k (.ref (E.aK j) :: st) m
      | none => False
  | .invokestatic x => zcallS Γ x st m k
  | .invokevirtual x => zcallV b Γ x st m k
  | _ => False
theorem zMg_7 {E : zEnv} {b a : Nat} {Γ : zΓ zM} {r : List Value} {m : zM} {k : List Value → zM → Prop} : zMhp E b Γ (.getfield 7) (.ref a :: r) m k = (a = b ∧ k (.ref (b + 1) :: r) m) := rfl
theorem zMg_13 {E : zEnv} {b a : Nat} {Γ : zΓ zM} {r : List Value} {m : zM} {k : List Value → zM → Prop} : zMhp E b Γ (.getfield 13) (.ref a :: r) m k = (a = b ∧ k (.ref (b + 2) :: r) m) := rfl
theorem zMg_16 {E : zEnv} {b a : Nat} {Γ : zΓ zM} {r : List Value} {m : zM} {k : List Value → zM → Prop} : zMhp E b Γ (.getfield 16) (.ref a :: r) m k = (a = b ∧ k (.ref (b + 3) :: r) m) := rfl
theorem zMg_19 {E : zEnv} {b a : Nat} {Γ : zΓ zM} {r : List Value} {m : zM} {k : List Value → zM → Prop} : zMhp E b Γ (.getfield 19) (.ref a :: r) m k = (a = b ∧ k (.ref (b + 4) :: r) m) := rfl
theorem zMg_22 {E : zEnv} {b a : Nat} {Γ : zΓ zM} {r : List Value} {m : zM} {k : List Value → zM → Prop} : zMhp E b Γ (.getfield 22) (.ref a :: r) m k = (a = b ∧ k (.ref (b + 5) :: r) m) := rfl
theorem zMg_25 {E : zEnv} {b a : Nat} {Γ : zΓ zM} {r : List Value} {m : zM} {k : List Value → zM → Prop} : zMhp E b Γ (.getfield 25) (.ref a :: r) m k = (a = b ∧ k (.ref (b + 6) :: r) m) := rfl
theorem zMg_28 {E : zEnv} {b a : Nat} {Γ : zΓ zM} {r : List Value} {m : zM} {k : List Value → zM → Prop} : zMhp E b Γ (.getfield 28) (.ref a :: r) m k = (a = b ∧ k (.ref (b + 7) :: r) m) := rfl
theorem zMg_31 {E : zEnv} {b a : Nat} {Γ : zΓ zM} {r : List Value} {m : zM} {k : List Value → zM → Prop} : zMhp E b Γ (.getfield 31) (.ref a :: r) m k = (a = b ∧ k (.ref (b + 8) :: r) m) := rfl
theorem zMg_34 {E : zEnv} {b a : Nat} {Γ : zΓ zM} {r : List Value} {m : zM} {k : List Value → zM → Prop} : zMhp E b Γ (.getfield 34) (.ref a :: r) m k = (a = b ∧ k (.ref (b + 9) :: r) m) := rfl
theorem zMg_37 {E : zEnv} {b a : Nat} {Γ : zΓ zM} {r : List Value} {m : zM} {k : List Value → zM → Prop} : zMhp E b Γ (.getfield 37) (.ref a :: r) m k = (a = b ∧ k (.ref (b + 10) :: r) m) := rfl
theorem zMg_40 {E : zEnv} {b a : Nat} {Γ : zΓ zM} {r : List Value} {m : zM} {k : List Value → zM → Prop} : zMhp E b Γ (.getfield 40) (.ref a :: r) m k = (a = b ∧ k (.int (m.1 25) :: r) m) := rfl
theorem zMp_40 {E : zEnv} {b a : Nat} {Γ : zΓ zM} {r : List Value} {v : Int32} {m : zM} {k : List Value → zM → Prop} : zMhp E b Γ (.putfield 40) (.int v :: .ref a :: r) m k = (a = b ∧ k r (zF m 25 v)) := propext ⟨fun h => ⟨h.1, h.2.2.2⟩, fun h => ⟨h.1, rfl, fun q => (by cases q), h.2⟩⟩
theorem zMg_44 {E : zEnv} {b a : Nat} {Γ : zΓ zM} {r : List Value} {m : zM} {k : List Value → zM → Prop} : zMhp E b Γ (.getfield 44) (.ref a :: r) m k = (a = b ∧ k (.ref (b + 11) :: r) m) := rfl
theorem zMg_48 {E : zEnv} {b a : Nat} {Γ : zΓ zM} {r : List Value} {m : zM} {k : List Value → zM → Prop} : zMhp E b Γ (.getfield 48) (.ref a :: r) m k = (a = b ∧ k (.ref (b + 12) :: r) m) := rfl
theorem zMg_51 {E : zEnv} {b a : Nat} {Γ : zΓ zM} {r : List Value} {m : zM} {k : List Value → zM → Prop} : zMhp E b Γ (.getfield 51) (.ref a :: r) m k = (a = b ∧ k (.ref (b + 13) :: r) m) := rfl
theorem zMg_55 {E : zEnv} {b a : Nat} {Γ : zΓ zM} {r : List Value} {m : zM} {k : List Value → zM → Prop} : zMhp E b Γ (.getfield 55) (.ref a :: r) m k = (a = b ∧ k (.ref (b + 14) :: r) m) := rfl
theorem zMg_58 {E : zEnv} {b a : Nat} {Γ : zΓ zM} {r : List Value} {m : zM} {k : List Value → zM → Prop} : zMhp E b Γ (.getfield 58) (.ref a :: r) m k = (a = b ∧ k (.ref (b + 15) :: r) m) := rfl
theorem zMg_61 {E : zEnv} {b a : Nat} {Γ : zΓ zM} {r : List Value} {m : zM} {k : List Value → zM → Prop} : zMhp E b Γ (.getfield 61) (.ref a :: r) m k = (a = b ∧ k (.ref (b + 16) :: r) m) := rfl
theorem zMg_64 {E : zEnv} {b a : Nat} {Γ : zΓ zM} {r : List Value} {m : zM} {k : List Value → zM → Prop} : zMhp E b Γ (.getfield 64) (.ref a :: r) m k = (a = b ∧ k (.ref (b + 17) :: r) m) := rfl
theorem zMg_67 {E : zEnv} {b a : Nat} {Γ : zΓ zM} {r : List Value} {m : zM} {k : List Value → zM → Prop} : zMhp E b Γ (.getfield 67) (.ref a :: r) m k = (a = b ∧ k (.ref (b + 18) :: r) m) := rfl
theorem zMg_81 {E : zEnv} {b a : Nat} {Γ : zΓ zM} {r : List Value} {m : zM} {k : List Value → zM → Prop} : zMhp E b Γ (.getfield 81) (.ref a :: r) m k = (a = b ∧ k (.int (m.1 4) :: r) m) := rfl
theorem zMp_81 {E : zEnv} {b a : Nat} {Γ : zΓ zM} {r : List Value} {v : Int32} {m : zM} {k : List Value → zM → Prop} : zMhp E b Γ (.putfield 81) (.int v :: .ref a :: r) m k = (a = b ∧ k r (zF m 4 v)) := propext ⟨fun h => ⟨h.1, h.2.2.2⟩, fun h => ⟨h.1, rfl, fun q => (by cases q), h.2⟩⟩
theorem zMg_104 {E : zEnv} {b a : Nat} {Γ : zΓ zM} {r : List Value} {m : zM} {k : List Value → zM → Prop} : zMhp E b Γ (.getfield 104) (.ref a :: r) m k = (a = b ∧ k (.int (m.1 16) :: r) m) := rfl
theorem zMp_104 {E : zEnv} {b a : Nat} {Γ : zΓ zM} {r : List Value} {v : Int32} {m : zM} {k : List Value → zM → Prop} : zMhp E b Γ (.putfield 104) (.int v :: .ref a :: r) m k = (a = b ∧ k r (zF m 16 v)) := propext ⟨fun h => ⟨h.1, h.2.2.2⟩, fun h => ⟨h.1, rfl, fun q => (by cases q), h.2⟩⟩
theorem zMg_107 {E : zEnv} {b a : Nat} {Γ : zΓ zM} {r : List Value} {m : zM} {k : List Value → zM → Prop} : zMhp E b Γ (.getfield 107) (.ref a :: r) m k = (a = b ∧ k (.int (m.1 17) :: r) m) := rfl
theorem zMp_107 {E : zEnv} {b a : Nat} {Γ : zΓ zM} {r : List Value} {v : Int32} {m : zM} {k : List Value → zM → Prop} : zMhp E b Γ (.putfield 107) (.int v :: .ref a :: r) m k = (a = b ∧ k r (zF m 17 v)) := propext ⟨fun h => ⟨h.1, h.2.2.2⟩, fun h => ⟨h.1, rfl, fun q => (by cases q), h.2⟩⟩
theorem zMg_110 {E : zEnv} {b a : Nat} {Γ : zΓ zM} {r : List Value} {m : zM} {k : List Value → zM → Prop} : zMhp E b Γ (.getfield 110) (.ref a :: r) m k = (a = b ∧ k (.int (m.1 19) :: r) m) := rfl
theorem zMp_110 {E : zEnv} {b a : Nat} {Γ : zΓ zM} {r : List Value} {v : Int32} {m : zM} {k : List Value → zM → Prop} : zMhp E b Γ (.putfield 110) (.int v :: .ref a :: r) m k = (a = b ∧ k r (zF m 19 v)) := propext ⟨fun h => ⟨h.1, h.2.2.2⟩, fun h => ⟨h.1, rfl, fun q => (by cases q), h.2⟩⟩
theorem zMg_155 {E : zEnv} {b a : Nat} {Γ : zΓ zM} {r : List Value} {m : zM} {k : List Value → zM → Prop} : zMhp E b Γ (.getfield 155) (.ref a :: r) m k = (a = b ∧ k (.int (m.1 12) :: r) m) := rfl
theorem zMp_155 {E : zEnv} {b a : Nat} {Γ : zΓ zM} {r : List Value} {v : Int32} {m : zM} {k : List Value → zM → Prop} : zMhp E b Γ (.putfield 155) (.int v :: .ref a :: r) m k = (a = b ∧ k r (zF m 12 v)) := propext ⟨fun h => ⟨h.1, h.2.2.2⟩, fun h => ⟨h.1, rfl, fun q => (by cases q), h.2⟩⟩
theorem zMg_197 {E : zEnv} {b a : Nat} {Γ : zΓ zM} {r : List Value} {m : zM} {k : List Value → zM → Prop} : zMhp E b Γ (.getfield 197) (.ref a :: r) m k = (a = b ∧ k (.int (m.1 18) :: r) m) := rfl
theorem zMp_197 {E : zEnv} {b a : Nat} {Γ : zΓ zM} {r : List Value} {v : Int32} {m : zM} {k : List Value → zM → Prop} : zMhp E b Γ (.putfield 197) (.int v :: .ref a :: r) m k = (a = b ∧ k r (zF m 18 v)) := propext ⟨fun h => ⟨h.1, h.2.2.2⟩, fun h => ⟨h.1, rfl, fun q => (by cases q), h.2⟩⟩
theorem zMg_209 {E : zEnv} {b a : Nat} {Γ : zΓ zM} {r : List Value} {m : zM} {k : List Value → zM → Prop} : zMhp E b Γ (.getfield 209) (.ref a :: r) m k = (a = b ∧ k (.int (m.1 20) :: r) m) := rfl
theorem zMp_209 {E : zEnv} {b a : Nat} {Γ : zΓ zM} {r : List Value} {v : Int32} {m : zM} {k : List Value → zM → Prop} : zMhp E b Γ (.putfield 209) (.int v :: .ref a :: r) m k = (a = b ∧ k r (zF m 20 v)) := propext ⟨fun h => ⟨h.1, h.2.2.2⟩, fun h => ⟨h.1, rfl, fun q => (by cases q), h.2⟩⟩
theorem zMg_212 {E : zEnv} {b a : Nat} {Γ : zΓ zM} {r : List Value} {m : zM} {k : List Value → zM → Prop} : zMhp E b Γ (.getfield 212) (.ref a :: r) m k = (a = b ∧ k (.int (m.1 21) :: r) m) := rfl
theorem zMp_212 {E : zEnv} {b a : Nat} {Γ : zΓ zM} {r : List Value} {v : Int32} {m : zM} {k : List Value → zM → Prop} : zMhp E b Γ (.putfield 212) (.int v :: .ref a :: r) m k = (a = b ∧ k r (zF m 21 v)) := propext ⟨fun h => ⟨h.1, h.2.2.2⟩, fun h => ⟨h.1, rfl, fun q => (by cases q), h.2⟩⟩
theorem zMg_215 {E : zEnv} {b a : Nat} {Γ : zΓ zM} {r : List Value} {m : zM} {k : List Value → zM → Prop} : zMhp E b Γ (.getfield 215) (.ref a :: r) m k = (a = b ∧ k (.int (m.1 22) :: r) m) := rfl
theorem zMp_215 {E : zEnv} {b a : Nat} {Γ : zΓ zM} {r : List Value} {v : Int32} {m : zM} {k : List Value → zM → Prop} : zMhp E b Γ (.putfield 215) (.int v :: .ref a :: r) m k = (a = b ∧ k r (zF m 22 v)) := propext ⟨fun h => ⟨h.1, h.2.2.2⟩, fun h => ⟨h.1, rfl, fun q => (by cases q), h.2⟩⟩
theorem zMg_224 {E : zEnv} {b a : Nat} {Γ : zΓ zM} {r : List Value} {m : zM} {k : List Value → zM → Prop} : zMhp E b Γ (.getfield 224) (.ref a :: r) m k = (a = b ∧ k (.int (m.1 14) :: r) m) := rfl
theorem zMp_224 {E : zEnv} {b a : Nat} {Γ : zΓ zM} {r : List Value} {v : Int32} {m : zM} {k : List Value → zM → Prop} : zMhp E b Γ (.putfield 224) (.int v :: .ref a :: r) m k = (a = b ∧ k r (zF m 14 v)) := propext ⟨fun h => ⟨h.1, h.2.2.2⟩, fun h => ⟨h.1, rfl, fun q => (by cases q), h.2⟩⟩
theorem zMg_227 {E : zEnv} {b a : Nat} {Γ : zΓ zM} {r : List Value} {m : zM} {k : List Value → zM → Prop} : zMhp E b Γ (.getfield 227) (.ref a :: r) m k = (a = b ∧ k (.int (m.1 24) :: r) m) := rfl
theorem zMp_227 {E : zEnv} {b a : Nat} {Γ : zΓ zM} {r : List Value} {v : Int32} {m : zM} {k : List Value → zM → Prop} : zMhp E b Γ (.putfield 227) (.int v :: .ref a :: r) m k = (a = b ∧ k r (zF m 24 v)) := propext ⟨fun h => ⟨h.1, h.2.2.2⟩, fun h => ⟨h.1, rfl, fun q => (by cases q), h.2⟩⟩
theorem zMg_259 {E : zEnv} {b a : Nat} {Γ : zΓ zM} {r : List Value} {m : zM} {k : List Value → zM → Prop} : zMhp E b Γ (.getfield 259) (.ref a :: r) m k = (a = b ∧ k (.int (m.1 13) :: r) m) := rfl
theorem zMp_259 {E : zEnv} {b a : Nat} {Γ : zΓ zM} {r : List Value} {v : Int32} {m : zM} {k : List Value → zM → Prop} : zMhp E b Γ (.putfield 259) (.int v :: .ref a :: r) m k = (a = b ∧ k r (zF m 13 v)) := propext ⟨fun h => ⟨h.1, h.2.2.2⟩, fun h => ⟨h.1, rfl, fun q => (by cases q), h.2⟩⟩
theorem zMg_265 {E : zEnv} {b a : Nat} {Γ : zΓ zM} {r : List Value} {m : zM} {k : List Value → zM → Prop} : zMhp E b Γ (.getfield 265) (.ref a :: r) m k = (a = b ∧ k (.int (m.1 26) :: r) m) := rfl
theorem zMp_265 {E : zEnv} {b a : Nat} {Γ : zΓ zM} {r : List Value} {v : Int32} {m : zM} {k : List Value → zM → Prop} : zMhp E b Γ (.putfield 265) (.int v :: .ref a :: r) m k = (a = b ∧ k r (zF m 26 v)) := propext ⟨fun h => ⟨h.1, h.2.2.2⟩, fun h => ⟨h.1, rfl, fun q => (by cases q), h.2⟩⟩
theorem zMg_272 {E : zEnv} {b a : Nat} {Γ : zΓ zM} {r : List Value} {m : zM} {k : List Value → zM → Prop} : zMhp E b Γ (.getfield 272) (.ref a :: r) m k = (a = b ∧ k (.int (m.1 15) :: r) m) := rfl
theorem zMp_272 {E : zEnv} {b a : Nat} {Γ : zΓ zM} {r : List Value} {v : Int32} {m : zM} {k : List Value → zM → Prop} : zMhp E b Γ (.putfield 272) (.int v :: .ref a :: r) m k = (a = b ∧ k r (zF m 15 v)) := propext ⟨fun h => ⟨h.1, h.2.2.2⟩, fun h => ⟨h.1, rfl, fun q => (by cases q), h.2⟩⟩
theorem zMg_285 {E : zEnv} {b a : Nat} {Γ : zΓ zM} {r : List Value} {m : zM} {k : List Value → zM → Prop} : zMhp E b Γ (.getfield 285) (.ref a :: r) m k = (a = b ∧ k (.int (m.1 23) :: r) m) := rfl
theorem zMp_285 {E : zEnv} {b a : Nat} {Γ : zΓ zM} {r : List Value} {v : Int32} {m : zM} {k : List Value → zM → Prop} : zMhp E b Γ (.putfield 285) (.int v :: .ref a :: r) m k = (a = b ∧ k r (zF m 23 v)) := propext ⟨fun h => ⟨h.1, h.2.2.2⟩, fun h => ⟨h.1, rfl, fun q => (by cases q), h.2⟩⟩
theorem zMg_355 {E : zEnv} {b a : Nat} {Γ : zΓ zM} {r : List Value} {m : zM} {k : List Value → zM → Prop} : zMhp E b Γ (.getfield 355) (.ref a :: r) m k = (a = b ∧ k (.int (m.1 30) :: r) m) := rfl
theorem zMp_355 {E : zEnv} {b a : Nat} {Γ : zΓ zM} {r : List Value} {v : Int32} {m : zM} {k : List Value → zM → Prop} : zMhp E b Γ (.putfield 355) (.int v :: .ref a :: r) m k = (a = b ∧ k r (zF m 30 v)) := propext ⟨fun h => ⟨h.1, h.2.2.2⟩, fun h => ⟨h.1, rfl, fun q => (by cases q), h.2⟩⟩
theorem zMg_367 {E : zEnv} {b a : Nat} {Γ : zΓ zM} {r : List Value} {m : zM} {k : List Value → zM → Prop} : zMhp E b Γ (.getfield 367) (.ref a :: r) m k = (a = b ∧ k (.int (m.1 29) :: r) m) := rfl
theorem zMp_367 {E : zEnv} {b a : Nat} {Γ : zΓ zM} {r : List Value} {v : Int32} {m : zM} {k : List Value → zM → Prop} : zMhp E b Γ (.putfield 367) (.int v :: .ref a :: r) m k = (a = b ∧ k r (zF m 29 v)) := propext ⟨fun h => ⟨h.1, h.2.2.2⟩, fun h => ⟨h.1, rfl, fun q => (by cases q), h.2⟩⟩
theorem zMg_377 {E : zEnv} {b a : Nat} {Γ : zΓ zM} {r : List Value} {m : zM} {k : List Value → zM → Prop} : zMhp E b Γ (.getfield 377) (.ref a :: r) m k = (a = b ∧ k (.int (m.1 27) :: r) m) := rfl
theorem zMp_377 {E : zEnv} {b a : Nat} {Γ : zΓ zM} {r : List Value} {v : Int32} {m : zM} {k : List Value → zM → Prop} : zMhp E b Γ (.putfield 377) (.int v :: .ref a :: r) m k = (a = b ∧ k r (zF m 27 v)) := propext ⟨fun h => ⟨h.1, h.2.2.2⟩, fun h => ⟨h.1, rfl, fun q => (by cases q), h.2⟩⟩
theorem zMg_380 {E : zEnv} {b a : Nat} {Γ : zΓ zM} {r : List Value} {m : zM} {k : List Value → zM → Prop} : zMhp E b Γ (.getfield 380) (.ref a :: r) m k = (a = b ∧ k (.int (m.1 28) :: r) m) := rfl
theorem zMp_380 {E : zEnv} {b a : Nat} {Γ : zΓ zM} {r : List Value} {v : Int32} {m : zM} {k : List Value → zM → Prop} : zMhp E b Γ (.putfield 380) (.int v :: .ref a :: r) m k = (a = b ∧ k r (zF m 28 v)) := propext ⟨fun h => ⟨h.1, h.2.2.2⟩, fun h => ⟨h.1, rfl, fun q => (by cases q), h.2⟩⟩
theorem zMg_511 {E : zEnv} {b a : Nat} {Γ : zΓ zM} {r : List Value} {m : zM} {k : List Value → zM → Prop} : zMhp E b Γ (.getfield 511) (.ref a :: r) m k = (a = b ∧ k (.int (m.1 5) :: r) m) := rfl
theorem zMp_511 {E : zEnv} {b a : Nat} {Γ : zΓ zM} {r : List Value} {v : Int32} {m : zM} {k : List Value → zM → Prop} : zMhp E b Γ (.putfield 511) (.int v :: .ref a :: r) m k = (a = b ∧ (v = 0 ∨ v = 1) ∧ k r (zF m 5 v)) := propext ⟨fun h => ⟨h.1, h.2.2.1 rfl, h.2.2.2⟩, fun h => ⟨h.1, rfl, fun _ => h.2.1, h.2.2⟩⟩
theorem zMl_1 {E : zEnv} {b : Nat} {Γ : zΓ zM} {r : List Value} {j : Int32} {m : zM} {k : List Value → zM → Prop} :  zMhp E b Γ .iaload (.int j :: .ref (b + 1) :: r) m k = (vp_in j 2834 ∧ k (.int (m.2 1 j.toNatClampNeg) :: r) m) := by simp [zMhp, zMbl, zMlen]
theorem zMs_1 {E : zEnv} {b : Nat} {Γ : zΓ zM} {r : List Value} {j v : Int32} {m : zM} {k : List Value → zM → Prop} : zMhp E b Γ .iastore (.int v :: .int j :: .ref (b + 1) :: r) m k = (vp_in j 2834 ∧ k r (zA m 1 j.toNatClampNeg v)) := by simp [zMhp, zMbl, zMlen]
theorem zMl_2 {E : zEnv} {b : Nat} {Γ : zΓ zM} {r : List Value} {j : Int32} {m : zM} {k : List Value → zM → Prop} :  zMhp E b Γ .iaload (.int j :: .ref (b + 2) :: r) m k = (vp_in j 2834 ∧ k (.int (m.2 2 j.toNatClampNeg) :: r) m) := by simp [zMhp, zMbl, zMlen]
theorem zMs_2 {E : zEnv} {b : Nat} {Γ : zΓ zM} {r : List Value} {j v : Int32} {m : zM} {k : List Value → zM → Prop} : zMhp E b Γ .iastore (.int v :: .int j :: .ref (b + 2) :: r) m k = (vp_in j 2834 ∧ k r (zA m 2 j.toNatClampNeg v)) := by simp [zMhp, zMbl, zMlen]
theorem zMl_3 {E : zEnv} {b : Nat} {Γ : zΓ zM} {r : List Value} {j : Int32} {m : zM} {k : List Value → zM → Prop} :  zMhp E b Γ .iaload (.int j :: .ref (b + 3) :: r) m k = (vp_in j 576 ∧ k (.int (m.2 3 j.toNatClampNeg) :: r) m) := by simp [zMhp, zMbl, zMlen]
theorem zMs_3 {E : zEnv} {b : Nat} {Γ : zΓ zM} {r : List Value} {j v : Int32} {m : zM} {k : List Value → zM → Prop} : zMhp E b Γ .iastore (.int v :: .int j :: .ref (b + 3) :: r) m k = (vp_in j 576 ∧ k r (zA m 3 j.toNatClampNeg v)) := by simp [zMhp, zMbl, zMlen]
theorem zMl_4 {E : zEnv} {b : Nat} {Γ : zΓ zM} {r : List Value} {j : Int32} {m : zM} {k : List Value → zM → Prop} :  zMhp E b Γ .iaload (.int j :: .ref (b + 4) :: r) m k = (vp_in j 96 ∧ k (.int (m.2 4 j.toNatClampNeg) :: r) m) := by simp [zMhp, zMbl, zMlen]
theorem zMs_4 {E : zEnv} {b : Nat} {Γ : zΓ zM} {r : List Value} {j v : Int32} {m : zM} {k : List Value → zM → Prop} : zMhp E b Γ .iastore (.int v :: .int j :: .ref (b + 4) :: r) m k = (vp_in j 96 ∧ k r (zA m 4 j.toNatClampNeg v)) := by simp [zMhp, zMbl, zMlen]
theorem zMl_5 {E : zEnv} {b : Nat} {Γ : zΓ zM} {r : List Value} {j : Int32} {m : zM} {k : List Value → zM → Prop} :  zMhp E b Γ .iaload (.int j :: .ref (b + 5) :: r) m k = (vp_in j 64 ∧ k (.int (m.2 5 j.toNatClampNeg) :: r) m) := by simp [zMhp, zMbl, zMlen]
theorem zMs_5 {E : zEnv} {b : Nat} {Γ : zΓ zM} {r : List Value} {j v : Int32} {m : zM} {k : List Value → zM → Prop} : zMhp E b Γ .iastore (.int v :: .int j :: .ref (b + 5) :: r) m k = (vp_in j 64 ∧ k r (zA m 5 j.toNatClampNeg v)) := by simp [zMhp, zMbl, zMlen]
theorem zMl_6 {E : zEnv} {b : Nat} {Γ : zΓ zM} {r : List Value} {j : Int32} {m : zM} {k : List Value → zM → Prop} :  zMhp E b Γ .iaload (.int j :: .ref (b + 6) :: r) m k = (vp_in j 820 ∧ k (.int (m.2 6 j.toNatClampNeg) :: r) m) := by simp [zMhp, zMbl, zMlen]
theorem zMs_6 {E : zEnv} {b : Nat} {Γ : zΓ zM} {r : List Value} {j v : Int32} {m : zM} {k : List Value → zM → Prop} : zMhp E b Γ .iastore (.int v :: .int j :: .ref (b + 6) :: r) m k = (vp_in j 820 ∧ k r (zA m 6 j.toNatClampNeg v)) := by simp [zMhp, zMbl, zMlen]
theorem zMl_7 {E : zEnv} {b : Nat} {Γ : zΓ zM} {r : List Value} {j : Int32} {m : zM} {k : List Value → zM → Prop} :  zMhp E b Γ .iaload (.int j :: .ref (b + 7) :: r) m k = (vp_in j 100 ∧ k (.int (m.2 7 j.toNatClampNeg) :: r) m) := by simp [zMhp, zMbl, zMlen]
theorem zMs_7 {E : zEnv} {b : Nat} {Γ : zΓ zM} {r : List Value} {j v : Int32} {m : zM} {k : List Value → zM → Prop} : zMhp E b Γ .iastore (.int v :: .int j :: .ref (b + 7) :: r) m k = (vp_in j 100 ∧ k r (zA m 7 j.toNatClampNeg v)) := by simp [zMhp, zMbl, zMlen]
theorem zMl_8 {E : zEnv} {b : Nat} {Γ : zΓ zM} {r : List Value} {j : Int32} {m : zM} {k : List Value → zM → Prop} :  zMhp E b Γ .iaload (.int j :: .ref (b + 8) :: r) m k = (vp_in j 400 ∧ k (.int (m.2 8 j.toNatClampNeg) :: r) m) := by simp [zMhp, zMbl, zMlen]
theorem zMs_8 {E : zEnv} {b : Nat} {Γ : zΓ zM} {r : List Value} {j v : Int32} {m : zM} {k : List Value → zM → Prop} : zMhp E b Γ .iastore (.int v :: .int j :: .ref (b + 8) :: r) m k = (vp_in j 400 ∧ k r (zA m 8 j.toNatClampNeg v)) := by simp [zMhp, zMbl, zMlen]
theorem zMl_9 {E : zEnv} {b : Nat} {Γ : zΓ zM} {r : List Value} {j : Int32} {m : zM} {k : List Value → zM → Prop} :  zMhp E b Γ .iaload (.int j :: .ref (b + 9) :: r) m k = (vp_in j 420 ∧ k (.int (m.2 9 j.toNatClampNeg) :: r) m) := by simp [zMhp, zMbl, zMlen]
theorem zMs_9 {E : zEnv} {b : Nat} {Γ : zΓ zM} {r : List Value} {j v : Int32} {m : zM} {k : List Value → zM → Prop} : zMhp E b Γ .iastore (.int v :: .int j :: .ref (b + 9) :: r) m k = (vp_in j 420 ∧ k r (zA m 9 j.toNatClampNeg v)) := by simp [zMhp, zMbl, zMlen]
theorem zMl_10 {E : zEnv} {b : Nat} {Γ : zΓ zM} {r : List Value} {j : Int32} {m : zM} {k : List Value → zM → Prop} :  zMhp E b Γ .iaload (.int j :: .ref (b + 10) :: r) m k = (vp_in j 11 ∧ k (.int (m.2 10 j.toNatClampNeg) :: r) m) := by simp [zMhp, zMbl, zMlen]
theorem zMs_10 {E : zEnv} {b : Nat} {Γ : zΓ zM} {r : List Value} {j v : Int32} {m : zM} {k : List Value → zM → Prop} : zMhp E b Γ .iastore (.int v :: .int j :: .ref (b + 10) :: r) m k = (vp_in j 11 ∧ k r (zA m 10 j.toNatClampNeg v)) := by simp [zMhp, zMbl, zMlen]
theorem zMl_11 {E : zEnv} {b : Nat} {Γ : zΓ zM} {r : List Value} {j : Int32} {m : zM} {k : List Value → zM → Prop} :  zMhp E b Γ .baload (.int j :: .ref (b + 11) :: r) m k = (vp_in j 256 ∧ k (.int (m.2 11 j.toNatClampNeg) :: r) m) := by simp [zMhp, zMbl, zMlen]
theorem zMs_11 {E : zEnv} {b : Nat} {Γ : zΓ zM} {r : List Value} {j v : Int32} {m : zM} {k : List Value → zM → Prop} : zMhp E b Γ .bastore (.int v :: .int j :: .ref (b + 11) :: r) m k = (vp_in j 256 ∧ (v = 0 ∨ v = 1) ∧ k r (zA m 11 j.toNatClampNeg v)) := by simp [zMhp, zMbl, zMlen]
theorem zMl_12 {E : zEnv} {b : Nat} {Γ : zΓ zM} {r : List Value} {j : Int32} {m : zM} {k : List Value → zM → Prop} :  zMhp E b Γ .baload (.int j :: .ref (b + 12) :: r) m k = (vp_in j 4096 ∧ k (.int (m.2 12 j.toNatClampNeg) :: r) m) := by simp [zMhp, zMbl, zMlen]
theorem zMs_12 {E : zEnv} {b : Nat} {Γ : zΓ zM} {r : List Value} {j v : Int32} {m : zM} {k : List Value → zM → Prop} : zMhp E b Γ .bastore (.int v :: .int j :: .ref (b + 12) :: r) m k = (vp_in j 4096 ∧ (v = 0 ∨ v = 1) ∧ k r (zA m 12 j.toNatClampNeg v)) := by simp [zMhp, zMbl, zMlen]
theorem zMl_13 {E : zEnv} {b : Nat} {Γ : zΓ zM} {r : List Value} {j : Int32} {m : zM} {k : List Value → zM → Prop} :  zMhp E b Γ .baload (.int j :: .ref (b + 13) :: r) m k = (vp_in j 32 ∧ k (.int (m.2 13 j.toNatClampNeg) :: r) m) := by simp [zMhp, zMbl, zMlen]
theorem zMs_13 {E : zEnv} {b : Nat} {Γ : zΓ zM} {r : List Value} {j v : Int32} {m : zM} {k : List Value → zM → Prop} : zMhp E b Γ .bastore (.int v :: .int j :: .ref (b + 13) :: r) m k = (vp_in j 32 ∧ (v = 0 ∨ v = 1) ∧ k r (zA m 13 j.toNatClampNeg v)) := by simp [zMhp, zMbl, zMlen]
theorem zMl_14 {E : zEnv} {b : Nat} {Γ : zΓ zM} {r : List Value} {j : Int32} {m : zM} {k : List Value → zM → Prop} :  zMhp E b Γ .iaload (.int j :: .ref (b + 14) :: r) m k = (vp_in j 65536 ∧ k (.int (m.2 14 j.toNatClampNeg) :: r) m) := by simp [zMhp, zMbl, zMlen]
theorem zMs_14 {E : zEnv} {b : Nat} {Γ : zΓ zM} {r : List Value} {j v : Int32} {m : zM} {k : List Value → zM → Prop} : zMhp E b Γ .iastore (.int v :: .int j :: .ref (b + 14) :: r) m k = (vp_in j 65536 ∧ k r (zA m 14 j.toNatClampNeg v)) := by simp [zMhp, zMbl, zMlen]
theorem zMl_15 {E : zEnv} {b : Nat} {Γ : zΓ zM} {r : List Value} {j : Int32} {m : zM} {k : List Value → zM → Prop} :  zMhp E b Γ .iaload (.int j :: .ref (b + 15) :: r) m k = (vp_in j 8 ∧ k (.int (m.2 15 j.toNatClampNeg) :: r) m) := by simp [zMhp, zMbl, zMlen]
theorem zMs_15 {E : zEnv} {b : Nat} {Γ : zΓ zM} {r : List Value} {j v : Int32} {m : zM} {k : List Value → zM → Prop} : zMhp E b Γ .iastore (.int v :: .int j :: .ref (b + 15) :: r) m k = (vp_in j 8 ∧ k r (zA m 15 j.toNatClampNeg v)) := by simp [zMhp, zMbl, zMlen]
theorem zMl_16 {E : zEnv} {b : Nat} {Γ : zΓ zM} {r : List Value} {j : Int32} {m : zM} {k : List Value → zM → Prop} :  zMhp E b Γ .iaload (.int j :: .ref (b + 16) :: r) m k = (vp_in j 4 ∧ k (.int (m.2 16 j.toNatClampNeg) :: r) m) := by simp [zMhp, zMbl, zMlen]
theorem zMs_16 {E : zEnv} {b : Nat} {Γ : zΓ zM} {r : List Value} {j v : Int32} {m : zM} {k : List Value → zM → Prop} : zMhp E b Γ .iastore (.int v :: .int j :: .ref (b + 16) :: r) m k = (vp_in j 4 ∧ k r (zA m 16 j.toNatClampNeg v)) := by simp [zMhp, zMbl, zMlen]
theorem zMl_17 {E : zEnv} {b : Nat} {Γ : zΓ zM} {r : List Value} {j : Int32} {m : zM} {k : List Value → zM → Prop} :  zMhp E b Γ .iaload (.int j :: .ref (b + 17) :: r) m k = (vp_in j 8 ∧ k (.int (m.2 17 j.toNatClampNeg) :: r) m) := by simp [zMhp, zMbl, zMlen]
theorem zMs_17 {E : zEnv} {b : Nat} {Γ : zΓ zM} {r : List Value} {j v : Int32} {m : zM} {k : List Value → zM → Prop} : zMhp E b Γ .iastore (.int v :: .int j :: .ref (b + 17) :: r) m k = (vp_in j 8 ∧ k r (zA m 17 j.toNatClampNeg v)) := by simp [zMhp, zMbl, zMlen]
theorem zMl_18 {E : zEnv} {b : Nat} {Γ : zΓ zM} {r : List Value} {j : Int32} {m : zM} {k : List Value → zM → Prop} :  zMhp E b Γ .iaload (.int j :: .ref (b + 18) :: r) m k = (vp_in j 256 ∧ k (.int (m.2 18 j.toNatClampNeg) :: r) m) := by simp [zMhp, zMbl, zMlen]
theorem zMs_18 {E : zEnv} {b : Nat} {Γ : zΓ zM} {r : List Value} {j v : Int32} {m : zM} {k : List Value → zM → Prop} : zMhp E b Γ .iastore (.int v :: .int j :: .ref (b + 18) :: r) m k = (vp_in j 256 ∧ k r (zA m 18 j.toNatClampNeg v)) := by simp [zMhp, zMbl, zMlen]
theorem zMc_54 {E : zEnv} {b : Nat} {Γ : zΓ zM} {st : List Value} {m : zM} {k : List Value → zM → Prop} : zMhp E b Γ (.ldc 54) st m k = k (.int 65536 :: st) m := rfl
theorem zMc_87 {E : zEnv} {b : Nat} {Γ : zΓ zM} {st : List Value} {m : zM} {k : List Value → zM → Prop} : zMhp E b Γ (.ldc 87) st m k = k (.int 1664525 :: st) m := rfl
theorem zMc_88 {E : zEnv} {b : Nat} {Γ : zΓ zM} {st : List Value} {m : zM} {k : List Value → zM → Prop} : zMhp E b Γ (.ldc 88) st m k = k (.int 1013904223 :: st) m := rfl
theorem zMc_147 {E : zEnv} {b : Nat} {Γ : zΓ zM} {st : List Value} {m : zM} {k : List Value → zM → Prop} : zMhp E b Γ (.ldc 147) st m k = k (.ref (E.aK 0) :: st) m := rfl
theorem zMc_149 {E : zEnv} {b : Nat} {Γ : zΓ zM} {st : List Value} {m : zM} {k : List Value → zM → Prop} : zMhp E b Γ (.ldc 149) st m k = k (.ref (E.aK 1) :: st) m := rfl
theorem zMc_151 {E : zEnv} {b : Nat} {Γ : zΓ zM} {st : List Value} {m : zM} {k : List Value → zM → Prop} : zMhp E b Γ (.ldc 151) st m k = k (.ref (E.aK 2) :: st) m := rfl
theorem zMc_153 {E : zEnv} {b : Nat} {Γ : zΓ zM} {st : List Value} {m : zM} {k : List Value → zM → Prop} : zMhp E b Γ (.ldc 153) st m k = k (.ref (E.aK 3) :: st) m := rfl
theorem zMc_158 {E : zEnv} {b : Nat} {Γ : zΓ zM} {st : List Value} {m : zM} {k : List Value → zM → Prop} : zMhp E b Γ (.ldc 158) st m k = k (.ref (E.aK 4) :: st) m := rfl
theorem zMc_160 {E : zEnv} {b : Nat} {Γ : zΓ zM} {st : List Value} {m : zM} {k : List Value → zM → Prop} : zMhp E b Γ (.ldc 160) st m k = k (.ref (E.aK 5) :: st) m := rfl
theorem zMc_162 {E : zEnv} {b : Nat} {Γ : zΓ zM} {st : List Value} {m : zM} {k : List Value → zM → Prop} : zMhp E b Γ (.ldc 162) st m k = k (.ref (E.aK 6) :: st) m := rfl
theorem zMc_164 {E : zEnv} {b : Nat} {Γ : zΓ zM} {st : List Value} {m : zM} {k : List Value → zM → Prop} : zMhp E b Γ (.ldc 164) st m k = k (.ref (E.aK 7) :: st) m := rfl
theorem zMc_166 {E : zEnv} {b : Nat} {Γ : zΓ zM} {st : List Value} {m : zM} {k : List Value → zM → Prop} : zMhp E b Γ (.ldc 166) st m k = k (.ref (E.aK 8) :: st) m := rfl
theorem zMc_123 {E : zEnv} {b : Nat} {Γ : zΓ zM} {st : List Value} {m : zM} {k : List Value → zM → Prop} : zMhp E b Γ (.ldc 123) st m k = k (.ref (E.aK 9) :: st) m := rfl
theorem zMc_129 {E : zEnv} {b : Nat} {Γ : zΓ zM} {st : List Value} {m : zM} {k : List Value → zM → Prop} : zMhp E b Γ (.ldc 129) st m k = k (.ref (E.aK 10) :: st) m := rfl
theorem zMc_131 {E : zEnv} {b : Nat} {Γ : zΓ zM} {st : List Value} {m : zM} {k : List Value → zM → Prop} : zMhp E b Γ (.ldc 131) st m k = k (.ref (E.aK 11) :: st) m := rfl
theorem zMc_133 {E : zEnv} {b : Nat} {Γ : zΓ zM} {st : List Value} {m : zM} {k : List Value → zM → Prop} : zMhp E b Γ (.ldc 133) st m k = k (.ref (E.aK 12) :: st) m := rfl
theorem zMc_135 {E : zEnv} {b : Nat} {Γ : zΓ zM} {st : List Value} {m : zM} {k : List Value → zM → Prop} : zMhp E b Γ (.ldc 135) st m k = k (.ref (E.aK 13) :: st) m := rfl
theorem zMc_137 {E : zEnv} {b : Nat} {Γ : zΓ zM} {st : List Value} {m : zM} {k : List Value → zM → Prop} : zMhp E b Γ (.ldc 137) st m k = k (.ref (E.aK 14) :: st) m := rfl
theorem zMc_139 {E : zEnv} {b : Nat} {Γ : zΓ zM} {st : List Value} {m : zM} {k : List Value → zM → Prop} : zMhp E b Γ (.ldc 139) st m k = k (.ref (E.aK 15) :: st) m := rfl
theorem zMc_141 {E : zEnv} {b : Nat} {Γ : zΓ zM} {st : List Value} {m : zM} {k : List Value → zM → Prop} : zMhp E b Γ (.ldc 141) st m k = k (.ref (E.aK 16) :: st) m := rfl
theorem zMc_143 {E : zEnv} {b : Nat} {Γ : zΓ zM} {st : List Value} {m : zM} {k : List Value → zM → Prop} : zMhp E b Γ (.ldc 143) st m k = k (.ref (E.aK 17) :: st) m := rfl
theorem zMc_145 {E : zEnv} {b : Nat} {Γ : zΓ zM} {st : List Value} {m : zM} {k : List Value → zM → Prop} : zMhp E b Γ (.ldc 145) st m k = k (.ref (E.aK 18) :: st) m := rfl
theorem zMc_171 {E : zEnv} {b : Nat} {Γ : zΓ zM} {st : List Value} {m : zM} {k : List Value → zM → Prop} : zMhp E b Γ (.ldc 171) st m k = k (.ref (E.aK 19) :: st) m := rfl
theorem zMc_173 {E : zEnv} {b : Nat} {Γ : zΓ zM} {st : List Value} {m : zM} {k : List Value → zM → Prop} : zMhp E b Γ (.ldc 173) st m k = k (.ref (E.aK 20) :: st) m := rfl
theorem zMc_175 {E : zEnv} {b : Nat} {Γ : zΓ zM} {st : List Value} {m : zM} {k : List Value → zM → Prop} : zMhp E b Γ (.ldc 175) st m k = k (.ref (E.aK 21) :: st) m := rfl
theorem zMc_177 {E : zEnv} {b : Nat} {Γ : zΓ zM} {st : List Value} {m : zM} {k : List Value → zM → Prop} : zMhp E b Γ (.ldc 177) st m k = k (.ref (E.aK 22) :: st) m := rfl
theorem zMc_179 {E : zEnv} {b : Nat} {Γ : zΓ zM} {st : List Value} {m : zM} {k : List Value → zM → Prop} : zMhp E b Γ (.ldc 179) st m k = k (.ref (E.aK 23) :: st) m := rfl
theorem zMc_181 {E : zEnv} {b : Nat} {Γ : zΓ zM} {st : List Value} {m : zM} {k : List Value → zM → Prop} : zMhp E b Γ (.ldc 181) st m k = k (.ref (E.aK 24) :: st) m := rfl
theorem zMc_183 {E : zEnv} {b : Nat} {Γ : zΓ zM} {st : List Value} {m : zM} {k : List Value → zM → Prop} : zMhp E b Γ (.ldc 183) st m k = k (.ref (E.aK 25) :: st) m := rfl
theorem zMfl_ok : ∀ q ∈ zMfl, (Cond.fieldLink RX3 q.1 RX3 (TX3 q.2).2.1 (TX3 q.2).2.2.1) ∈ lw_all ∧ q.2 < 39 := by
  intro q hq
  simp only [zMfl, List.mem_cons, List.not_mem_nil, or_false] at hq
  rcases hq with rfl | rfl | rfl | rfl | rfl | rfl | rfl | rfl | rfl | rfl | rfl | rfl | rfl | rfl | rfl | rfl | rfl | rfl | rfl | rfl | rfl | rfl | rfl | rfl | rfl | rfl | rfl | rfl | rfl | rfl | rfl | rfl | rfl | rfl | rfl | rfl | rfl | rfl | rfl
  · exact ⟨q1350, by decide⟩
  · exact ⟨q1351, by decide⟩
  · exact ⟨q1352, by decide⟩
  · exact ⟨q1353, by decide⟩
  · exact ⟨q1356, by decide⟩
  · exact ⟨q1357, by decide⟩
  · exact ⟨q1358, by decide⟩
  · exact ⟨q1359, by decide⟩
  · exact ⟨q1360, by decide⟩
  · exact ⟨q1361, by decide⟩
  · exact ⟨q1375, by decide⟩
  · exact ⟨q1381, by decide⟩
  · exact ⟨q1382, by decide⟩
  · exact ⟨q1383, by decide⟩
  · exact ⟨q1384, by decide⟩
  · exact ⟨q1385, by decide⟩
  · exact ⟨q1386, by decide⟩
  · exact ⟨q1387, by decide⟩
  · exact ⟨q1388, by decide⟩
  · exact ⟨q1354, by decide⟩
  · exact ⟨q1366, by decide⟩
  · exact ⟨q1367, by decide⟩
  · exact ⟨q1369, by decide⟩
  · exact ⟨q1362, by decide⟩
  · exact ⟨q1368, by decide⟩
  · exact ⟨q1370, by decide⟩
  · exact ⟨q1371, by decide⟩
  · exact ⟨q1372, by decide⟩
  · exact ⟨q1364, by decide⟩
  · exact ⟨q1374, by decide⟩
  · exact ⟨q1363, by decide⟩
  · exact ⟨q1376, by decide⟩
  · exact ⟨q1365, by decide⟩
  · exact ⟨q1373, by decide⟩
  · exact ⟨q1380, by decide⟩
  · exact ⟨q1379, by decide⟩
  · exact ⟨q1377, by decide⟩
  · exact ⟨q1378, by decide⟩
  · exact ⟨q1355, by decide⟩
theorem zMci_ok : ∀ q ∈ zMci, (Cond.constant RX3 q.1 q.2) ∈ lw_all := by
  intro q hq
  simp only [zMci, List.mem_cons, List.not_mem_nil, or_false] at hq
  rcases hq with rfl | rfl | rfl
  · exact q1349
  · exact q1788
  · exact q1789
theorem zMcs_ok : ∀ q ∈ zMcs, ∃ tx, (RX3, q.1, tx, q.2) ∈ zstr := by
  intro q hq
  simp only [zMcs, List.mem_cons, List.not_mem_nil, or_false] at hq
  rcases hq with rfl | rfl | rfl | rfl | rfl | rfl | rfl | rfl | rfl | rfl | rfl | rfl | rfl | rfl | rfl | rfl | rfl | rfl | rfl | rfl | rfl | rfl | rfl | rfl | rfl | rfl
  · exact ⟨_, List.mem_of_getElem? (i := 0) rfl⟩
  · exact ⟨_, List.mem_of_getElem? (i := 1) rfl⟩
  · exact ⟨_, List.mem_of_getElem? (i := 2) rfl⟩
  · exact ⟨_, List.mem_of_getElem? (i := 3) rfl⟩
  · exact ⟨_, List.mem_of_getElem? (i := 4) rfl⟩
  · exact ⟨_, List.mem_of_getElem? (i := 5) rfl⟩
  · exact ⟨_, List.mem_of_getElem? (i := 6) rfl⟩
  · exact ⟨_, List.mem_of_getElem? (i := 7) rfl⟩
  · exact ⟨_, List.mem_of_getElem? (i := 8) rfl⟩
  · exact ⟨_, List.mem_of_getElem? (i := 9) rfl⟩
  · exact ⟨_, List.mem_of_getElem? (i := 10) rfl⟩
  · exact ⟨_, List.mem_of_getElem? (i := 11) rfl⟩
  · exact ⟨_, List.mem_of_getElem? (i := 12) rfl⟩
  · exact ⟨_, List.mem_of_getElem? (i := 13) rfl⟩
  · exact ⟨_, List.mem_of_getElem? (i := 14) rfl⟩
  · exact ⟨_, List.mem_of_getElem? (i := 15) rfl⟩
  · exact ⟨_, List.mem_of_getElem? (i := 16) rfl⟩
  · exact ⟨_, List.mem_of_getElem? (i := 17) rfl⟩
  · exact ⟨_, List.mem_of_getElem? (i := 18) rfl⟩
  · exact ⟨_, List.mem_of_getElem? (i := 19) rfl⟩
  · exact ⟨_, List.mem_of_getElem? (i := 20) rfl⟩
  · exact ⟨_, List.mem_of_getElem? (i := 21) rfl⟩
  · exact ⟨_, List.mem_of_getElem? (i := 22) rfl⟩
  · exact ⟨_, List.mem_of_getElem? (i := 23) rfl⟩
  · exact ⟨_, List.mem_of_getElem? (i := 24) rfl⟩
  · exact ⟨_, List.mem_of_getElem? (i := 25) rfl⟩
