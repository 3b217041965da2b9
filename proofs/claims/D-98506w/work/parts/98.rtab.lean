/-! ===== the pools of ToolUnion's classes, by entry ===== -/
def rC (ci : Nat) : String := [RX3, RX0, RX2, RX1, RX4, RX5, RX6, RX8, RX9, RX10, RX11, RJ0, RJ1, RJ10, RX7].getD ci ""
def rN (ci : Nat) : Nat := [39, 58, 16, 4, 8, 3, 5, 1, 1, 3, 1].getD ci 0
def rT (ci : Nat) : u_T := [TX3, TX0, TX2, TX1, TX4, TX5, TX6, TX8, TX9, TX10, TX11].getD ci TX3
def rty (ci : Nat) : Nat → FieldType := [tyX3, tyX0, tyX2, tyX1, tyX4, tyX5, tyX6, tyX8, tyX9, tyX10, tyX11].getD ci tyX3
theorem r_cl {ci : Nat} (h : ci < 11) : zcl[ci]? = some (rC ci, rT ci, rN ci) ∧ (∀ w ∈ u_ws (rC ci) (rT ci) (rN ci), w ∈ lw_all) ∧ (∀ k, k < rN ci → parseFieldDescriptor (rT ci k).2.2.1 = some (rty ci k)) ∧ (∀ a, a < rN ci → ∀ b, b < rN ci → a ≠ b → (rT ci a).2.1 ≠ (rT ci b).2.1) := by
  rcases (by omega : ci = 0 ∨ ci = 1 ∨ ci = 2 ∨ ci = 3 ∨ ci = 4 ∨ ci = 5 ∨ ci = 6 ∨ ci = 7 ∨ ci = 8 ∨ ci = 9 ∨ ci = 10) with rfl | rfl | rfl | rfl | rfl | rfl | rfl | rfl | rfl | rfl | rfl
  · exact ⟨rfl, in_X3, tyX3_ok, nmX3⟩
  · exact ⟨rfl, in_X0, tyX0_ok, nmX0⟩
  · exact ⟨rfl, in_X2, tyX2_ok, nmX2⟩
  · exact ⟨rfl, in_X1, tyX1_ok, nmX1⟩
  · exact ⟨rfl, in_X4, tyX4_ok, nmX4⟩
  · exact ⟨rfl, in_X5, tyX5_ok, nmX5⟩
  · exact ⟨rfl, in_X6, tyX6_ok, nmX6⟩
  · exact ⟨rfl, in_X8, tyX8_ok, nmX8⟩
  · exact ⟨rfl, in_X9, tyX9_ok, nmX9⟩
  · exact ⟨rfl, in_X10, tyX10_ok, nmX10⟩
  · exact ⟨rfl, in_X11, tyX11_ok, nmX11⟩
/-- of the own class: fields (entry, class, number, of a nest mate), statics, numbers, Strings -/
abbrev rTb : Type := List (Nat × Nat × Nat × Bool) × List (Nat × Nat) × List (Nat × Int32) × List (Nat × Nat)
def rTok (own : Nat) (t : rTb) : Prop :=
  (∀ q ∈ t.1, q.2.1 < 11 ∧ q.2.2.1 < rN q.2.1 ∧ (q.2.2.2 = false → (Cond.fieldLink (rC own) q.1 (rT q.2.1 q.2.2.1).1 (rT q.2.1 q.2.2.1).2.1 (rT q.2.1 q.2.2.1).2.2.1) ∈ lw_all) ∧ (q.2.2.2 = true → ∃ host, (Cond.fieldLinkNest (rC own) q.1 (rT q.2.1 q.2.2.1).1 (rT q.2.1 q.2.2.1).2.1 (rT q.2.1 q.2.2.1).2.2.1 host) ∈ zNF)) ∧
  (∀ q ∈ t.2.1, ∃ C nm d, (C, nm, d, q.2) ∈ zstl ∧ (Cond.fieldLink (rC own) q.1 C nm d) ∈ lw_all) ∧
  (∀ q ∈ t.2.2.1, (Cond.constant (rC own) q.1 q.2) ∈ lw_all) ∧
  ∀ q ∈ t.2.2.2, ∃ tx, (rC own, q.1, tx, q.2) ∈ zstr
def rt1 : rTb := ([(24, 1, 0, false), (56, 1, 2, false), (80, 1, 3, false), (91, 1, 4, false), (94, 1, 5, false), (97, 1, 6, false), (100, 1, 7, false), (103, 1, 8, false), (106, 1, 15, false), (113, 1, 16, false), (117, 1, 17, false), (122, 1, 18, false), (128, 1, 19, false), (132, 1, 20, false), (136, 1, 21, false), (139, 1, 22, false), (142, 1, 23, false), (145, 1, 24, false), (148, 1, 25, false), (150, 1, 26, false), (153, 1, 30, false), (156, 1, 31, false), (164, 1, 32, false), (168, 1, 33, false), (171, 1, 34, false), (174, 1, 35, false), (177, 1, 36, false), (181, 1, 41, false), (185, 1, 42, false), (189, 1, 43, false), (192, 1, 44, false), (195, 1, 45, false), (198, 1, 46, false), (201, 1, 47, false), (204, 1, 48, false), (207, 1, 49, false), (211, 1, 51, false), (215, 1, 52, false), (218, 1, 53, false), (221, 2, 4, false), (230, 1, 1, false), (245, 1, 10, false), (248, 1, 11, false), (258, 1, 9, false), (274, 1, 12, false), (338, 1, 13, false), (368, 3, 3, false), (371, 3, 0, false), (374, 3, 1, false), (378, 3, 2, false), (393, 1, 27, false), (396, 1, 28, false), (402, 1, 50, false), (405, 2, 5, false), (408, 1, 37, false), (434, 1, 14, false), (440, 4, 6, false), (442, 4, 7, false), (445, 2, 9, false), (448, 2, 6, false), (461, 2, 8, false), (470, 2, 0, false), (472, 2, 1, false), (474, 2, 2, false), (476, 2, 3, false), (490, 1, 29, false), (500, 2, 7, false), (510, 1, 38, false), (513, 1, 39, false), (516, 1, 40, false), (635, 2, 14, false), (638, 2, 11, false), (641, 2, 12, false), (644, 2, 13, false), (661, 1, 54, false), (664, 1, 55, false), (667, 1, 56, false), (670, 1, 57, false)], [(262, 2), (271, 4), (277, 0), (280, 1), (295, 3), (478, 5), (481, 6)], [(188, 65536), (294, 99999)], [(32, 26), (34, 27), (36, 28), (38, 29), (40, 30), (42, 31), (44, 32), (46, 33), (48, 34), (50, 35), (52, 36), (54, 37), (60, 38), (62, 39), (64, 40), (66, 41), (68, 42), (70, 43), (72, 44), (74, 45), (76, 46), (78, 47), (83, 48), (85, 49), (87, 50), (89, 51), (298, 52)])
theorem rt1_ok : rTok 1 rt1 := by
  refine ⟨?_, ?_, ?_, ?_⟩
  · intro q hq
    simp only [rt1, List.mem_cons, List.not_mem_nil, or_false] at hq
    rcases hq with rfl | rfl | rfl | rfl | rfl | rfl | rfl | rfl | rfl | rfl | rfl | rfl | rfl | rfl | rfl | rfl | rfl | rfl | rfl | rfl | rfl | rfl | rfl | rfl | rfl | rfl | rfl | rfl | rfl | rfl | rfl | rfl | rfl | rfl | rfl | rfl | rfl | rfl | rfl | rfl | rfl | rfl | rfl | rfl | rfl | rfl | rfl | rfl | rfl | rfl | rfl | rfl | rfl | rfl | rfl | rfl | rfl | rfl | rfl | rfl | rfl | rfl | rfl | rfl | rfl | rfl | rfl | rfl | rfl | rfl | rfl | rfl | rfl | rfl | rfl | rfl | rfl | rfl
    · exact ⟨by decide, by decide, fun _ => q329, (fun h => nomatch h)⟩
    · exact ⟨by decide, by decide, fun _ => q331, (fun h => nomatch h)⟩
    · exact ⟨by decide, by decide, fun _ => q332, (fun h => nomatch h)⟩
    · exact ⟨by decide, by decide, fun _ => q333, (fun h => nomatch h)⟩
    · exact ⟨by decide, by decide, fun _ => q334, (fun h => nomatch h)⟩
    · exact ⟨by decide, by decide, fun _ => q335, (fun h => nomatch h)⟩
    · exact ⟨by decide, by decide, fun _ => q336, (fun h => nomatch h)⟩
    · exact ⟨by decide, by decide, fun _ => q337, (fun h => nomatch h)⟩
    · exact ⟨by decide, by decide, fun _ => q344, (fun h => nomatch h)⟩
    · exact ⟨by decide, by decide, fun _ => q345, (fun h => nomatch h)⟩
    · exact ⟨by decide, by decide, fun _ => q347, (fun h => nomatch h)⟩
    · exact ⟨by decide, by decide, fun _ => q349, (fun h => nomatch h)⟩
    · exact ⟨by decide, by decide, fun _ => q351, (fun h => nomatch h)⟩
    · exact ⟨by decide, by decide, fun _ => q354, (fun h => nomatch h)⟩
    · exact ⟨by decide, by decide, fun _ => q356, (fun h => nomatch h)⟩
    · exact ⟨by decide, by decide, fun _ => q358, (fun h => nomatch h)⟩
    · exact ⟨by decide, by decide, fun _ => q359, (fun h => nomatch h)⟩
    · exact ⟨by decide, by decide, fun _ => q360, (fun h => nomatch h)⟩
    · exact ⟨by decide, by decide, fun _ => q363, (fun h => nomatch h)⟩
    · exact ⟨by decide, by decide, fun _ => q365, (fun h => nomatch h)⟩
    · exact ⟨by decide, by decide, fun _ => q371, (fun h => nomatch h)⟩
    · exact ⟨by decide, by decide, fun _ => q373, (fun h => nomatch h)⟩
    · exact ⟨by decide, by decide, fun _ => q374, (fun h => nomatch h)⟩
    · exact ⟨by decide, by decide, fun _ => q375, (fun h => nomatch h)⟩
    · exact ⟨by decide, by decide, fun _ => q376, (fun h => nomatch h)⟩
    · exact ⟨by decide, by decide, fun _ => q377, (fun h => nomatch h)⟩
    · exact ⟨by decide, by decide, fun _ => q378, (fun h => nomatch h)⟩
    · exact ⟨by decide, by decide, fun _ => q383, (fun h => nomatch h)⟩
    · exact ⟨by decide, by decide, fun _ => q384, (fun h => nomatch h)⟩
    · exact ⟨by decide, by decide, fun _ => q385, (fun h => nomatch h)⟩
    · exact ⟨by decide, by decide, fun _ => q386, (fun h => nomatch h)⟩
    · exact ⟨by decide, by decide, fun _ => q387, (fun h => nomatch h)⟩
    · exact ⟨by decide, by decide, fun _ => q388, (fun h => nomatch h)⟩
    · exact ⟨by decide, by decide, fun _ => q389, (fun h => nomatch h)⟩
    · exact ⟨by decide, by decide, fun _ => q390, (fun h => nomatch h)⟩
    · exact ⟨by decide, by decide, fun _ => q391, (fun h => nomatch h)⟩
    · exact ⟨by decide, by decide, fun _ => q393, (fun h => nomatch h)⟩
    · exact ⟨by decide, by decide, fun _ => q394, (fun h => nomatch h)⟩
    · exact ⟨by decide, by decide, fun _ => q395, (fun h => nomatch h)⟩
    · exact ⟨by decide, by decide, fun _ => q268, (fun h => nomatch h)⟩
    · exact ⟨by decide, by decide, fun _ => q330, (fun h => nomatch h)⟩
    · exact ⟨by decide, by decide, fun _ => q339, (fun h => nomatch h)⟩
    · exact ⟨by decide, by decide, fun _ => q340, (fun h => nomatch h)⟩
    · exact ⟨by decide, by decide, fun _ => q338, (fun h => nomatch h)⟩
    · exact ⟨by decide, by decide, fun _ => q341, (fun h => nomatch h)⟩
    · exact ⟨by decide, by decide, fun _ => q342, (fun h => nomatch h)⟩
    · exact ⟨by decide, by decide, fun _ => q237, (fun h => nomatch h)⟩
    · exact ⟨by decide, by decide, fun _ => q228, (fun h => nomatch h)⟩
    · exact ⟨by decide, by decide, fun _ => q231, (fun h => nomatch h)⟩
    · exact ⟨by decide, by decide, fun _ => q234, (fun h => nomatch h)⟩
    · exact ⟨by decide, by decide, fun _ => q367, (fun h => nomatch h)⟩
    · exact ⟨by decide, by decide, fun _ => q368, (fun h => nomatch h)⟩
    · exact ⟨by decide, by decide, fun _ => q392, (fun h => nomatch h)⟩
    · exact ⟨by decide, by decide, fun _ => q270, (fun h => nomatch h)⟩
    · exact ⟨by decide, by decide, fun _ => q379, (fun h => nomatch h)⟩
    · exact ⟨by decide, by decide, fun _ => q343, (fun h => nomatch h)⟩
    · exact ⟨by decide, by decide, fun _ => q746, (fun h => nomatch h)⟩
    · exact ⟨by decide, by decide, fun _ => q748, (fun h => nomatch h)⟩
    · exact ⟨by decide, by decide, fun _ => q278, (fun h => nomatch h)⟩
    · exact ⟨by decide, by decide, fun _ => q272, (fun h => nomatch h)⟩
    · exact ⟨by decide, by decide, fun _ => q276, (fun h => nomatch h)⟩
    · exact ⟨by decide, by decide, fun _ => q260, (fun h => nomatch h)⟩
    · exact ⟨by decide, by decide, fun _ => q262, (fun h => nomatch h)⟩
    · exact ⟨by decide, by decide, fun _ => q264, (fun h => nomatch h)⟩
    · exact ⟨by decide, by decide, fun _ => q266, (fun h => nomatch h)⟩
    · exact ⟨by decide, by decide, fun _ => q370, (fun h => nomatch h)⟩
    · exact ⟨by decide, by decide, fun _ => q274, (fun h => nomatch h)⟩
    · exact ⟨by decide, by decide, fun _ => q380, (fun h => nomatch h)⟩
    · exact ⟨by decide, by decide, fun _ => q381, (fun h => nomatch h)⟩
    · exact ⟨by decide, by decide, fun _ => q382, (fun h => nomatch h)⟩
    · exact ⟨by decide, by decide, fun _ => q287, (fun h => nomatch h)⟩
    · exact ⟨by decide, by decide, fun _ => q281, (fun h => nomatch h)⟩
    · exact ⟨by decide, by decide, fun _ => q283, (fun h => nomatch h)⟩
    · exact ⟨by decide, by decide, fun _ => q285, (fun h => nomatch h)⟩
    · exact ⟨by decide, by decide, fun _ => q396, (fun h => nomatch h)⟩
    · exact ⟨by decide, by decide, fun _ => q397, (fun h => nomatch h)⟩
    · exact ⟨by decide, by decide, fun _ => q398, (fun h => nomatch h)⟩
    · exact ⟨by decide, by decide, fun _ => q399, (fun h => nomatch h)⟩
  · intro q hq
    simp only [rt1, List.mem_cons, List.not_mem_nil, or_false] at hq
    rcases hq with rfl | rfl | rfl | rfl | rfl | rfl | rfl
    · exact ⟨_, _, _, List.mem_of_getElem? (i := 2) rfl, q561⟩
    · exact ⟨_, _, _, List.mem_of_getElem? (i := 4) rfl, q686⟩
    · exact ⟨_, _, _, List.mem_of_getElem? (i := 0) rfl, q554⟩
    · exact ⟨_, _, _, List.mem_of_getElem? (i := 1) rfl, q556⟩
    · exact ⟨_, _, _, List.mem_of_getElem? (i := 3) rfl, q626⟩
    · exact ⟨_, _, _, List.mem_of_getElem? (i := 5) rfl, q958⟩
    · exact ⟨_, _, _, List.mem_of_getElem? (i := 6) rfl, q960⟩
  · intro q hq
    simp only [rt1, List.mem_cons, List.not_mem_nil, or_false] at hq
    rcases hq with rfl | rfl
    · exact q323
    · exact q622
  · intro q hq
    simp only [rt1, List.mem_cons, List.not_mem_nil, or_false] at hq
    rcases hq with rfl | rfl | rfl | rfl | rfl | rfl | rfl | rfl | rfl | rfl | rfl | rfl | rfl | rfl | rfl | rfl | rfl | rfl | rfl | rfl | rfl | rfl | rfl | rfl | rfl | rfl | rfl
    · exact ⟨_, List.mem_of_getElem? (i := 26) rfl⟩
    · exact ⟨_, List.mem_of_getElem? (i := 27) rfl⟩
    · exact ⟨_, List.mem_of_getElem? (i := 28) rfl⟩
    · exact ⟨_, List.mem_of_getElem? (i := 29) rfl⟩
    · exact ⟨_, List.mem_of_getElem? (i := 30) rfl⟩
    · exact ⟨_, List.mem_of_getElem? (i := 31) rfl⟩
    · exact ⟨_, List.mem_of_getElem? (i := 32) rfl⟩
    · exact ⟨_, List.mem_of_getElem? (i := 33) rfl⟩
    · exact ⟨_, List.mem_of_getElem? (i := 34) rfl⟩
    · exact ⟨_, List.mem_of_getElem? (i := 35) rfl⟩
    · exact ⟨_, List.mem_of_getElem? (i := 36) rfl⟩
    · exact ⟨_, List.mem_of_getElem? (i := 37) rfl⟩
    · exact ⟨_, List.mem_of_getElem? (i := 38) rfl⟩
    · exact ⟨_, List.mem_of_getElem? (i := 39) rfl⟩
    · exact ⟨_, List.mem_of_getElem? (i := 40) rfl⟩
    · exact ⟨_, List.mem_of_getElem? (i := 41) rfl⟩
    · exact ⟨_, List.mem_of_getElem? (i := 42) rfl⟩
    · exact ⟨_, List.mem_of_getElem? (i := 43) rfl⟩
    · exact ⟨_, List.mem_of_getElem? (i := 44) rfl⟩
    · exact ⟨_, List.mem_of_getElem? (i := 45) rfl⟩
    · exact ⟨_, List.mem_of_getElem? (i := 46) rfl⟩
    · exact ⟨_, List.mem_of_getElem? (i := 47) rfl⟩
    · exact ⟨_, List.mem_of_getElem? (i := 48) rfl⟩
    · exact ⟨_, List.mem_of_getElem? (i := 49) rfl⟩
    · exact ⟨_, List.mem_of_getElem? (i := 50) rfl⟩
    · exact ⟨_, List.mem_of_getElem? (i := 51) rfl⟩
    · exact ⟨_, List.mem_of_getElem? (i := 52) rfl⟩
def rt2 : rTb := ([(3, 2, 15, false), (15, 2, 0, false), (19, 2, 1, false), (22, 2, 2, false), (25, 2, 3, false), (28, 2, 4, false), (31, 2, 5, false), (38, 2, 6, false), (42, 2, 7, false), (45, 2, 8, false), (48, 2, 9, false), (55, 2, 10, false), (59, 2, 11, false), (62, 2, 14, false), (65, 2, 12, false), (68, 2, 13, false), (73, 1, 31, true), (76, 1, 25, true), (79, 1, 20, true), (82, 1, 22, true), (85, 1, 26, true), (88, 1, 21, true), (95, 1, 24, true), (102, 1, 16, true), (112, 3, 0, false), (122, 1, 17, true), (125, 3, 3, false), (128, 3, 2, false), (137, 3, 1, false), (153, 1, 18, true), (172, 1, 27, true), (179, 1, 29, true), (182, 1, 19, true)], [], [(71, 1664525), (72, 1013904223)], [])
theorem rt2_ok : rTok 2 rt2 := by
  refine ⟨?_, ?_, ?_, ?_⟩
  · intro q hq
    simp only [rt2, List.mem_cons, List.not_mem_nil, or_false] at hq
    rcases hq with rfl | rfl | rfl | rfl | rfl | rfl | rfl | rfl | rfl | rfl | rfl | rfl | rfl | rfl | rfl | rfl | rfl | rfl | rfl | rfl | rfl | rfl | rfl | rfl | rfl | rfl | rfl | rfl | rfl | rfl | rfl | rfl | rfl
    · exact ⟨by decide, by decide, fun _ => q288, (fun h => nomatch h)⟩
    · exact ⟨by decide, by decide, fun _ => q259, (fun h => nomatch h)⟩
    · exact ⟨by decide, by decide, fun _ => q261, (fun h => nomatch h)⟩
    · exact ⟨by decide, by decide, fun _ => q263, (fun h => nomatch h)⟩
    · exact ⟨by decide, by decide, fun _ => q265, (fun h => nomatch h)⟩
    · exact ⟨by decide, by decide, fun _ => q267, (fun h => nomatch h)⟩
    · exact ⟨by decide, by decide, fun _ => q269, (fun h => nomatch h)⟩
    · exact ⟨by decide, by decide, fun _ => q271, (fun h => nomatch h)⟩
    · exact ⟨by decide, by decide, fun _ => q273, (fun h => nomatch h)⟩
    · exact ⟨by decide, by decide, fun _ => q275, (fun h => nomatch h)⟩
    · exact ⟨by decide, by decide, fun _ => q277, (fun h => nomatch h)⟩
    · exact ⟨by decide, by decide, fun _ => q279, (fun h => nomatch h)⟩
    · exact ⟨by decide, by decide, fun _ => q280, (fun h => nomatch h)⟩
    · exact ⟨by decide, by decide, fun _ => q286, (fun h => nomatch h)⟩
    · exact ⟨by decide, by decide, fun _ => q282, (fun h => nomatch h)⟩
    · exact ⟨by decide, by decide, fun _ => q284, (fun h => nomatch h)⟩
    · exact ⟨by decide, by decide, (fun h => nomatch h), fun _ => ⟨_, List.mem_of_getElem? (i := 12) rfl⟩⟩
    · exact ⟨by decide, by decide, (fun h => nomatch h), fun _ => ⟨_, List.mem_of_getElem? (i := 8) rfl⟩⟩
    · exact ⟨by decide, by decide, (fun h => nomatch h), fun _ => ⟨_, List.mem_of_getElem? (i := 4) rfl⟩⟩
    · exact ⟨by decide, by decide, (fun h => nomatch h), fun _ => ⟨_, List.mem_of_getElem? (i := 6) rfl⟩⟩
    · exact ⟨by decide, by decide, (fun h => nomatch h), fun _ => ⟨_, List.mem_of_getElem? (i := 9) rfl⟩⟩
    · exact ⟨by decide, by decide, (fun h => nomatch h), fun _ => ⟨_, List.mem_of_getElem? (i := 5) rfl⟩⟩
    · exact ⟨by decide, by decide, (fun h => nomatch h), fun _ => ⟨_, List.mem_of_getElem? (i := 7) rfl⟩⟩
    · exact ⟨by decide, by decide, (fun h => nomatch h), fun _ => ⟨_, List.mem_of_getElem? (i := 0) rfl⟩⟩
    · exact ⟨by decide, by decide, fun _ => q227, (fun h => nomatch h)⟩
    · exact ⟨by decide, by decide, (fun h => nomatch h), fun _ => ⟨_, List.mem_of_getElem? (i := 1) rfl⟩⟩
    · exact ⟨by decide, by decide, fun _ => q236, (fun h => nomatch h)⟩
    · exact ⟨by decide, by decide, fun _ => q233, (fun h => nomatch h)⟩
    · exact ⟨by decide, by decide, fun _ => q230, (fun h => nomatch h)⟩
    · exact ⟨by decide, by decide, (fun h => nomatch h), fun _ => ⟨_, List.mem_of_getElem? (i := 2) rfl⟩⟩
    · exact ⟨by decide, by decide, (fun h => nomatch h), fun _ => ⟨_, List.mem_of_getElem? (i := 10) rfl⟩⟩
    · exact ⟨by decide, by decide, (fun h => nomatch h), fun _ => ⟨_, List.mem_of_getElem? (i := 11) rfl⟩⟩
    · exact ⟨by decide, by decide, (fun h => nomatch h), fun _ => ⟨_, List.mem_of_getElem? (i := 3) rfl⟩⟩
  · exact fun q hq => nomatch hq
  · intro q hq
    simp only [rt2, List.mem_cons, List.not_mem_nil, or_false] at hq
    rcases hq with rfl | rfl
    · exact q1109
    · exact q1110
  · exact fun q hq => nomatch hq
def rt3 : rTb := ([(9, 3, 0, false), (17, 3, 1, false), (21, 3, 2, false), (24, 3, 3, false)], [], [], [])
theorem rt3_ok : rTok 3 rt3 := by
  refine ⟨?_, ?_, ?_, ?_⟩
  · intro q hq
    simp only [rt3, List.mem_cons, List.not_mem_nil, or_false] at hq
    rcases hq with rfl | rfl | rfl | rfl
    · exact ⟨by decide, by decide, fun _ => q226, (fun h => nomatch h)⟩
    · exact ⟨by decide, by decide, fun _ => q229, (fun h => nomatch h)⟩
    · exact ⟨by decide, by decide, fun _ => q232, (fun h => nomatch h)⟩
    · exact ⟨by decide, by decide, fun _ => q235, (fun h => nomatch h)⟩
  · exact fun q hq => nomatch hq
  · exact fun q hq => nomatch hq
  · exact fun q hq => nomatch hq
def rt4 : rTb := ([(7, 4, 6, false), (13, 4, 7, false)], [], [], [])
theorem rt4_ok : rTok 4 rt4 := by
  refine ⟨?_, ?_, ?_, ?_⟩
  · intro q hq
    simp only [rt4, List.mem_cons, List.not_mem_nil, or_false] at hq
    rcases hq with rfl | rfl
    · exact ⟨by decide, by decide, fun _ => q745, (fun h => nomatch h)⟩
    · exact ⟨by decide, by decide, fun _ => q747, (fun h => nomatch h)⟩
  · exact fun q hq => nomatch hq
  · exact fun q hq => nomatch hq
  · exact fun q hq => nomatch hq
def rt5 : rTb := ([(7, 5, 0, false), (13, 5, 1, false), (16, 5, 2, false)], [], [], [])
theorem rt5_ok : rTok 5 rt5 := by
  refine ⟨?_, ?_, ?_, ?_⟩
  · intro q hq
    simp only [rt5, List.mem_cons, List.not_mem_nil, or_false] at hq
    rcases hq with rfl | rfl | rfl
    · exact ⟨by decide, by decide, fun _ => q786, (fun h => nomatch h)⟩
    · exact ⟨by decide, by decide, fun _ => q787, (fun h => nomatch h)⟩
    · exact ⟨by decide, by decide, fun _ => q788, (fun h => nomatch h)⟩
  · exact fun q hq => nomatch hq
  · exact fun q hq => nomatch hq
  · exact fun q hq => nomatch hq
def rt6 : rTb := ([(7, 6, 0, false), (13, 6, 1, false), (16, 6, 2, false), (19, 6, 3, false), (22, 6, 4, false)], [], [], [])
theorem rt6_ok : rTok 6 rt6 := by
  refine ⟨?_, ?_, ?_, ?_⟩
  · intro q hq
    simp only [rt6, List.mem_cons, List.not_mem_nil, or_false] at hq
    rcases hq with rfl | rfl | rfl | rfl | rfl
    · exact ⟨by decide, by decide, fun _ => q817, (fun h => nomatch h)⟩
    · exact ⟨by decide, by decide, fun _ => q818, (fun h => nomatch h)⟩
    · exact ⟨by decide, by decide, fun _ => q819, (fun h => nomatch h)⟩
    · exact ⟨by decide, by decide, fun _ => q820, (fun h => nomatch h)⟩
    · exact ⟨by decide, by decide, fun _ => q821, (fun h => nomatch h)⟩
  · exact fun q hq => nomatch hq
  · exact fun q hq => nomatch hq
  · exact fun q hq => nomatch hq
def rt7 : rTb := ([(7, 7, 0, false)], [], [], [])
theorem rt7_ok : rTok 7 rt7 := by
  refine ⟨?_, ?_, ?_, ?_⟩
  · intro q hq
    simp only [rt7, List.mem_cons, List.not_mem_nil, or_false] at hq
    rcases hq with rfl
    · exact ⟨by decide, by decide, fun _ => q862, (fun h => nomatch h)⟩
  · exact fun q hq => nomatch hq
  · exact fun q hq => nomatch hq
  · exact fun q hq => nomatch hq
def rt8 : rTb := ([(7, 8, 0, false)], [], [], [])
theorem rt8_ok : rTok 8 rt8 := by
  refine ⟨?_, ?_, ?_, ?_⟩
  · intro q hq
    simp only [rt8, List.mem_cons, List.not_mem_nil, or_false] at hq
    rcases hq with rfl
    · exact ⟨by decide, by decide, fun _ => q872, (fun h => nomatch h)⟩
  · exact fun q hq => nomatch hq
  · exact fun q hq => nomatch hq
  · exact fun q hq => nomatch hq
def rt9 : rTb := ([(7, 9, 0, false), (13, 9, 1, false), (17, 9, 2, false)], [], [], [])
theorem rt9_ok : rTok 9 rt9 := by
  refine ⟨?_, ?_, ?_, ?_⟩
  · intro q hq
    simp only [rt9, List.mem_cons, List.not_mem_nil, or_false] at hq
    rcases hq with rfl | rfl | rfl
    · exact ⟨by decide, by decide, fun _ => q882, (fun h => nomatch h)⟩
    · exact ⟨by decide, by decide, fun _ => q883, (fun h => nomatch h)⟩
    · exact ⟨by decide, by decide, fun _ => q884, (fun h => nomatch h)⟩
  · exact fun q hq => nomatch hq
  · exact fun q hq => nomatch hq
  · exact fun q hq => nomatch hq
def rt10 : rTb := ([(7, 10, 0, false)], [], [], [])
theorem rt10_ok : rTok 10 rt10 := by
  refine ⟨?_, ?_, ?_, ?_⟩
  · intro q hq
    simp only [rt10, List.mem_cons, List.not_mem_nil, or_false] at hq
    rcases hq with rfl
    · exact ⟨by decide, by decide, fun _ => q914, (fun h => nomatch h)⟩
  · exact fun q hq => nomatch hq
  · exact fun q hq => nomatch hq
  · exact fun q hq => nomatch hq
def rt11 : rTb := ([], [], [], [])
theorem rt11_ok : rTok 11 rt11 := ⟨(fun q h => nomatch h), (fun q h => nomatch h), (fun q h => nomatch h), (fun q h => nomatch h)⟩
def rt12 : rTb := ([], [], [], [])
theorem rt12_ok : rTok 12 rt12 := ⟨(fun q h => nomatch h), (fun q h => nomatch h), (fun q h => nomatch h), (fun q h => nomatch h)⟩
def rt14 : rTb := ([], [], [], [])
theorem rt14_ok : rTok 14 rt14 := ⟨(fun q h => nomatch h), (fun q h => nomatch h), (fun q h => nomatch h), (fun q h => nomatch h)⟩
def rt13 : rTb := ([], [], [(265, 1431655765), (266, 858993459), (267, 252645135), (264, 65536)], [])
theorem rt13_ok : rTok 13 rt13 := by
  refine ⟨(fun q h => nomatch h), (fun q h => nomatch h), ?_, (fun q h => nomatch h)⟩
  intro q hq
  simp only [rt13, List.mem_cons, List.not_mem_nil, or_false] at hq
  rcases hq with rfl | rfl | rfl | rfl
  · exact q1150
  · exact q1151
  · exact q1152
  · exact q1160
