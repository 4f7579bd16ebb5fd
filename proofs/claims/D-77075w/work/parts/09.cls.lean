/-! ===== the classes by their tags, the arrays by theirs (written by tools/gencls.py) ===== -/
def rt_cl : List vw_C := [(RX0, TX0, 26), (RX1, TX1, 9), (RX2, TX2, 2), (RX4, TX4, 4), (RX5, TX5, 2), (RX6, TX6, 2), (RX7, TX7, 6), (RX8, TX8, 2), (RX9, TX9, 2), (RX3, fun _ => ("", "", "", false), 0), (RX10, TX10, 40), (RX11, TX11, 8), (RX12, TX12, 7), (RX13, TX13, 1), (RX14, TX14, 1), (RX15, TX15, 1), (RX16, TX16, 1), (RX17, TX17, 1), (RX18, TX18, 1), (RX19, TX19, 1), (RX20, TX20, 1), (RX21, TX21, 1), (RJ2, TJ2, 4)]
/-- types of the fields: 0 int, 1 long, 2 reference, 3 boolean -/
def rt_ft : Nat → List Nat := fun t => match t with
  | 0 => [2, 2, 2, 2, 2, 2, 2, 2, 2, 2, 2, 2, 2, 2, 2, 2, 2, 0, 0, 0, 0, 0, 3, 0, 0, 0]
  | 1 => [2, 2, 2, 2, 0, 0, 0, 0, 0]
  | 2 => [0, 0]
  | 3 => [2, 2, 2, 2]
  | 4 => [2, 0]
  | 5 => [2, 2]
  | 6 => [0, 0, 0, 0, 0, 0]
  | 7 => [2, 0]
  | 8 => [0, 0]
  | 9 => []
  | 10 => [2, 2, 2, 2, 0, 0, 2, 2, 2, 2, 2, 0, 0, 3, 2, 2, 2, 2, 2, 2, 2, 0, 2, 2, 2, 0, 2, 0, 2, 0, 0, 0, 2, 2, 2, 2, 2, 2, 0, 3]
  | 11 => [2, 0, 2, 0, 0, 0, 0, 3]
  | 12 => [2, 2, 2, 2, 2, 0, 0]
  | 13 => [0]
  | 14 => [0]
  | 15 => [0]
  | 16 => [0]
  | 17 => [0]
  | 18 => [0]
  | 19 => [2]
  | 20 => [2]
  | 21 => [2]
  | 22 => [2, 0, 2, 0]
  | _ => []
def rt_ai : List (FieldType × Nat) := [(.int, 0), (.byte, 4), (.boolean, 3), (.short, 5), (.long, 1), ((.object "RoomTrees$Vertex"), 2), ((.object "RoomTrees$Forest"), 2), ((.object "RoomTrees$Note"), 2), ((.object "RoomTrees$Worker"), 2), ((.object "RoomTrees$Outcome"), 2), ((.object "RoomTrees$Branch"), 2), ((.object "RoomTrees$Written"), 2), ((.object "RoomTrees$Row"), 2), ((.object "java/lang/Object"), 2), ((.array .int), 2)]
/-- what the tables say of a class: its field words, its fields' types and names apart, and how it is made -/
def rt_clok (q : vw_C) : Prop := (∀ w ∈ u_ws q.1 q.2.1 q.2.2, w ∈ lw_all) ∧ (∃ ty : Nat → FieldType, ∀ k, k < q.2.2 → parseFieldDescriptor (q.2.1 k).2.2.1 = some (ty k)) ∧ (∀ a, a < q.2.2 → ∀ b, b < q.2.2 → a ≠ b → (q.2.1 a).2.1 ≠ (q.2.1 b).2.1) ∧ (Cond.instantiable q.1 q.2.2) ∈ lw_all ∧ (Cond.initialized q.1) ∈ lw_all
theorem rt_cl_0 : rt_clok (RX0, TX0, 26) := ⟨in_X0, ⟨tyX0, tyX0_ok⟩, nmX0, q128, q88⟩
theorem rt_cl_1 : rt_clok (RX1, TX1, 9) := ⟨in_X1, ⟨tyX1, tyX1_ok⟩, nmX1, q136, q89⟩
theorem rt_cl_2 : rt_clok (RX2, TX2, 2) := ⟨in_X2, ⟨tyX2, tyX2_ok⟩, nmX2, q143, q90⟩
theorem rt_cl_3 : rt_clok (RX4, TX4, 4) := ⟨in_X4, ⟨tyX4, tyX4_ok⟩, nmX4, q237, q95⟩
theorem rt_cl_4 : rt_clok (RX5, TX5, 2) := ⟨in_X5, ⟨tyX5, tyX5_ok⟩, nmX5, q251, q96⟩
theorem rt_cl_5 : rt_clok (RX6, TX6, 2) := ⟨in_X6, ⟨tyX6, tyX6_ok⟩, nmX6, q268, q97⟩
theorem rt_cl_6 : rt_clok (RX7, TX7, 6) := ⟨in_X7, ⟨tyX7, tyX7_ok⟩, nmX7, q300, q98⟩
theorem rt_cl_7 : rt_clok (RX8, TX8, 2) := ⟨in_X8, ⟨tyX8, tyX8_ok⟩, nmX8, q326, q99⟩
theorem rt_cl_8 : rt_clok (RX9, TX9, 2) := ⟨in_X9, ⟨tyX9, tyX9_ok⟩, nmX9, q340, q100⟩
theorem rt_cl_9 : rt_clok (RX3, fun _ => ("", "", "", false), 0) := ⟨fun w h => (List.not_mem_nil h).elim, ⟨fun _ => .int, fun k h => absurd h (Nat.not_lt_zero k)⟩, fun a h => absurd h (Nat.not_lt_zero a), q204, q94⟩
theorem rt_cl_10 : rt_clok (RX10, TX10, 40) := ⟨in_X10, ⟨tyX10, tyX10_ok⟩, nmX10, q1868, q101⟩
theorem rt_cl_11 : rt_clok (RX11, TX11, 8) := ⟨in_X11, ⟨tyX11, tyX11_ok⟩, nmX11, q950, q109⟩
theorem rt_cl_12 : rt_clok (RX12, TX12, 7) := ⟨in_X12, ⟨tyX12, tyX12_ok⟩, nmX12, q1014, q110⟩
theorem rt_cl_13 : rt_clok (RX13, TX13, 1) := ⟨in_X13, ⟨tyX13, tyX13_ok⟩, nmX13, q1332, q115⟩
theorem rt_cl_14 : rt_clok (RX14, TX14, 1) := ⟨in_X14, ⟨tyX14, tyX14_ok⟩, nmX14, q1287, q116⟩
theorem rt_cl_15 : rt_clok (RX15, TX15, 1) := ⟨in_X15, ⟨tyX15, tyX15_ok⟩, nmX15, q1300, q117⟩
theorem rt_cl_16 : rt_clok (RX16, TX16, 1) := ⟨in_X16, ⟨tyX16, tyX16_ok⟩, nmX16, q1308, q118⟩
theorem rt_cl_17 : rt_clok (RX17, TX17, 1) := ⟨in_X17, ⟨tyX17, tyX17_ok⟩, nmX17, q1316, q119⟩
theorem rt_cl_18 : rt_clok (RX18, TX18, 1) := ⟨in_X18, ⟨tyX18, tyX18_ok⟩, nmX18, q1324, q120⟩
theorem rt_cl_19 : rt_clok (RX19, TX19, 1) := ⟨in_X19, ⟨tyX19, tyX19_ok⟩, nmX19, q1652, q122⟩
theorem rt_cl_20 : rt_clok (RX20, TX20, 1) := ⟨in_X20, ⟨tyX20, tyX20_ok⟩, nmX20, q1662, q123⟩
theorem rt_cl_21 : rt_clok (RX21, TX21, 1) := ⟨in_X21, ⟨tyX21, tyX21_ok⟩, nmX21, q1673, q124⟩
theorem rt_cl_22 : rt_clok (RJ2, TJ2, 4) := ⟨in_J2, ⟨tyJ2, tyJ2_ok⟩, nmJ2, q202, q93⟩
theorem rt_cl_ok : ∀ (t : Nat) (q : vw_C), rt_cl[t]? = some q → rt_clok q := by
  intro t q h
  match t, h with
  | 0, h => cases h; exact rt_cl_0
  | 1, h => cases h; exact rt_cl_1
  | 2, h => cases h; exact rt_cl_2
  | 3, h => cases h; exact rt_cl_3
  | 4, h => cases h; exact rt_cl_4
  | 5, h => cases h; exact rt_cl_5
  | 6, h => cases h; exact rt_cl_6
  | 7, h => cases h; exact rt_cl_7
  | 8, h => cases h; exact rt_cl_8
  | 9, h => cases h; exact rt_cl_9
  | 10, h => cases h; exact rt_cl_10
  | 11, h => cases h; exact rt_cl_11
  | 12, h => cases h; exact rt_cl_12
  | 13, h => cases h; exact rt_cl_13
  | 14, h => cases h; exact rt_cl_14
  | 15, h => cases h; exact rt_cl_15
  | 16, h => cases h; exact rt_cl_16
  | 17, h => cases h; exact rt_cl_17
  | 18, h => cases h; exact rt_cl_18
  | 19, h => cases h; exact rt_cl_19
  | 20, h => cases h; exact rt_cl_20
  | 21, h => cases h; exact rt_cl_21
  | 22, h => cases h; exact rt_cl_22
  | n + 23, h => simp [rt_cl] at h
/-- the code of a type -/
def rt_fc : FieldType → Nat | .long => 1 | .object _ => 2 | .array _ => 2 | .boolean => 3 | _ => 0
theorem rt_ft_ok : ∀ (t : Nat) (q : vw_C), rt_cl[t]? = some q → ∀ k, k < q.2.2 → (parseFieldDescriptor (q.2.1 k).2.2.1).map rt_fc = some ((rt_ft t).getD k 0) := by
  intro t q h
  match t, h with
  | 0, h => cases h; decide +kernel
  | 1, h => cases h; decide +kernel
  | 2, h => cases h; decide +kernel
  | 3, h => cases h; decide +kernel
  | 4, h => cases h; decide +kernel
  | 5, h => cases h; decide +kernel
  | 6, h => cases h; decide +kernel
  | 7, h => cases h; decide +kernel
  | 8, h => cases h; decide +kernel
  | 9, h => cases h; decide +kernel
  | 10, h => cases h; decide +kernel
  | 11, h => cases h; decide +kernel
  | 12, h => cases h; decide +kernel
  | 13, h => cases h; decide +kernel
  | 14, h => cases h; decide +kernel
  | 15, h => cases h; decide +kernel
  | 16, h => cases h; decide +kernel
  | 17, h => cases h; decide +kernel
  | 18, h => cases h; decide +kernel
  | 19, h => cases h; decide +kernel
  | 20, h => cases h; decide +kernel
  | 21, h => cases h; decide +kernel
  | 22, h => cases h; decide +kernel
  | n + 23, h => simp [rt_cl] at h
/-- no field is a float or a double -/
theorem rt_nofl : ∀ (t : Nat) (q : vw_C), rt_cl[t]? = some q → ∀ k, k < q.2.2 → ¬ (parseFieldDescriptor (q.2.1 k).2.2.1 = some .float ∨ parseFieldDescriptor (q.2.1 k).2.2.1 = some .double) := by
  intro t q h
  match t, h with
  | 0, h => cases h; decide +kernel
  | 1, h => cases h; decide +kernel
  | 2, h => cases h; decide +kernel
  | 3, h => cases h; decide +kernel
  | 4, h => cases h; decide +kernel
  | 5, h => cases h; decide +kernel
  | 6, h => cases h; decide +kernel
  | 7, h => cases h; decide +kernel
  | 8, h => cases h; decide +kernel
  | 9, h => cases h; decide +kernel
  | 10, h => cases h; decide +kernel
  | 11, h => cases h; decide +kernel
  | 12, h => cases h; decide +kernel
  | 13, h => cases h; decide +kernel
  | 14, h => cases h; decide +kernel
  | 15, h => cases h; decide +kernel
  | 16, h => cases h; decide +kernel
  | 17, h => cases h; decide +kernel
  | 18, h => cases h; decide +kernel
  | 19, h => cases h; decide +kernel
  | 20, h => cases h; decide +kernel
  | 21, h => cases h; decide +kernel
  | 22, h => cases h; decide +kernel
  | n + 23, h => simp [rt_cl] at h
theorem rt_ft_len : ∀ (t : Nat) (q : vw_C), rt_cl[t]? = some q → (rt_ft t).length = q.2.2 := by
  intro t q h
  match t, h with
  | 0, h => cases h; rfl
  | 1, h => cases h; rfl
  | 2, h => cases h; rfl
  | 3, h => cases h; rfl
  | 4, h => cases h; rfl
  | 5, h => cases h; rfl
  | 6, h => cases h; rfl
  | 7, h => cases h; rfl
  | 8, h => cases h; rfl
  | 9, h => cases h; rfl
  | 10, h => cases h; rfl
  | 11, h => cases h; rfl
  | 12, h => cases h; rfl
  | 13, h => cases h; rfl
  | 14, h => cases h; rfl
  | 15, h => cases h; rfl
  | 16, h => cases h; rfl
  | 17, h => cases h; rfl
  | 18, h => cases h; rfl
  | 19, h => cases h; rfl
  | 20, h => cases h; rfl
  | 21, h => cases h; rfl
  | 22, h => cases h; rfl
  | n + 23, h => simp [rt_cl] at h
theorem rt_cl_lt : ∀ (t : Nat) (q : vw_C), rt_cl[t]? = some q → t < 23 := by
  intro t q h
  exact (List.getElem?_eq_some_iff.mp h).1
/-- the word that says that an array's class is there -/
def rt_aw (ty : FieldType) : Cond := match ty with | .object C => .arrayOver (.object C) | .array t => .arrayOver (.array t) | t => .arrayClass t
theorem rt_aw_ok : ∀ (j : Nat) (e : FieldType × Nat), rt_ai[j]? = some e → rt_aw e.1 ∈ lw_tbl := by
  intro j e h
  match j, h with
  | 0, h => cases h; exact lw_all_tbl q325
  | 1, h => cases h; exact lw_all_tbl q267
  | 2, h => cases h; exact lw_all_tbl q210
  | 3, h => cases h; exact lw_all_tbl q1671
  | 4, h => cases h; exact lw_all_tbl q158
  | 5, h => cases h; exact q142
  | 6, h => cases h; exact q194
  | 7, h => cases h; exact q196
  | 8, h => cases h; exact q198
  | 9, h => cases h; exact q200
  | 10, h => cases h; exact q243
  | 11, h => cases h; exact q245
  | 12, h => cases h; exact q299
  | 13, h => cases h; exact q222
  | 14, h => cases h; exact q1874
  | n + 15, h => simp [rt_ai] at h
