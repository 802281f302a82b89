/-! THE CLASSES whose objects are known by their fields, by number -/
set_option maxRecDepth 100000
/-- a gate operation: of its two fields 'this$0', which hold the same, the own one alone -/
def TG_ : u_T := fun k => match k with
  | 0 => ("StringTableau$Operation", "kind", "I", true)
  | 1 => ("StringTableau$GateOperation", "a", "I", true)
  | 2 => ("StringTableau$GateOperation", "b", "I", true)
  | 3 => ("StringTableau$GateOperation", "when", "I", true)
  | _ => ("StringTableau$GateOperation", "this$0", "LStringTableau;", true)
def TM_ : u_T := fun k => match k with
  | 0 => ("StringTableau$Operation", "kind", "I", true)
  | 1 => ("StringTableau$MeasureOperation", "string", "LStringTableau$Row;", true)
  | 2 => ("StringTableau$MeasureOperation", "told", "I", true)
  | 3 => ("StringTableau$MeasureOperation", "number", "I", true)
  | _ => ("StringTableau$MeasureOperation", "this$0", "LStringTableau;", true)
def xm_cl : List vw_C := [(RX1, TX1, 9), (RX2, TX2, 7), (RX3, TX3, 1), (RX4, TX4, 3), (RX5, TX5, 42), (RX6, TX6, 11), (RX7, TX7, 8), (RX9, TM_, 5), (RX10, TG_, 5), (RX11, TX11, 2), (RX12, TX12, 2), (RX13, TX13, 2),
  (RJ2, TJ2, 3), (RJ3, TJ3, 3), (RJ5, TJ5, 4), (RJ6, TJ6, 4), (RJ23, TJ23, 4), (RJ26, TJ26, 8), (RJ27, TJ27, 12), (RJ29, TJ29, 4), (RJ30, TJ30, 6), (RJ35, TJ35, 1)]
def xm_tl : List FieldType := [.int, .byte, .boolean, .long, .double, .char, .short, .object "java/lang/Object", .object "StringTableau$Row", .object "StringTableau$Tableau", .object "java/util/HashMap$Node"]
theorem in_G : ∀ w ∈ u_ws RX10 TG_ 5, w ∈ lw_all := lw_in (u_ws RX10 TG_ 5) [1110, 1102, 1104, 1106, 1108] (by decide +kernel) (by decide +kernel)
theorem in_M : ∀ w ∈ u_ws RX9 TM_ 5, w ∈ lw_all := lw_in (u_ws RX9 TM_ 5) [1012, 1004, 1006, 1008, 1010] (by decide +kernel) (by decide +kernel)
theorem nmG : ∀ a, a < 5 → ∀ b, b < 5 → a ≠ b → (TG_ a).2.1 ≠ (TG_ b).2.1 := by decide +kernel
theorem nmM : ∀ a, a < 5 → ∀ b, b < 5 → a ≠ b → (TM_ a).2.1 ≠ (TM_ b).2.1 := by decide +kernel
theorem tyG : ∀ k, k < 5 → (parseFieldDescriptor (TG_ k).2.2.1).isSome = true := by decide +kernel
theorem tyM : ∀ k, k < 5 → (parseFieldDescriptor (TM_ k).2.2.1).isSome = true := by decide +kernel
def xm_fok (r : vw_C) : Prop := (∀ w ∈ u_ws r.1 r.2.1 r.2.2, w ∈ lw_all) ∧ (∀ a, a < r.2.2 → ∀ b, b < r.2.2 → a ≠ b → (r.2.1 a).2.1 ≠ (r.2.1 b).2.1) ∧ ∀ k, k < r.2.2 → (parseFieldDescriptor (r.2.1 k).2.2.1).isSome = true
theorem xm_some {k N : Nat} {T : u_T} {ty : Nat → FieldType} (h : ∀ k, k < N → parseFieldDescriptor (T k).2.2.1 = some (ty k)) (hk : k < N) : (parseFieldDescriptor (T k).2.2.1).isSome = true := by
  rw [h k hk]
  rfl
theorem xm_cok : ∀ (ci : Nat) (r : vw_C), xm_cl[ci]? = some r → xm_fok r := by
  intro ci r h
  match ci, h with
  | 0, h => cases h; exact ⟨in_X1, nmX1, fun k hk => xm_some tyX1_ok hk⟩
  | 1, h => cases h; exact ⟨in_X2, nmX2, fun k hk => xm_some tyX2_ok hk⟩
  | 2, h => cases h; exact ⟨in_X3, nmX3, fun k hk => xm_some tyX3_ok hk⟩
  | 3, h => cases h; exact ⟨in_X4, nmX4, fun k hk => xm_some tyX4_ok hk⟩
  | 4, h => cases h; exact ⟨in_X5, nmX5, fun k hk => xm_some tyX5_ok hk⟩
  | 5, h => cases h; exact ⟨in_X6, nmX6, fun k hk => xm_some tyX6_ok hk⟩
  | 6, h => cases h; exact ⟨in_X7, nmX7, fun k hk => xm_some tyX7_ok hk⟩
  | 7, h => cases h; exact ⟨in_M, nmM, tyM⟩
  | 8, h => cases h; exact ⟨in_G, nmG, tyG⟩
  | 9, h => cases h; exact ⟨in_X11, nmX11, fun k hk => xm_some tyX11_ok hk⟩
  | 10, h => cases h; exact ⟨in_X12, nmX12, fun k hk => xm_some tyX12_ok hk⟩
  | 11, h => cases h; exact ⟨in_X13, nmX13, fun k hk => xm_some tyX13_ok hk⟩
  | 12, h => cases h; exact ⟨in_J2, nmJ2, fun k hk => xm_some tyJ2_ok hk⟩
  | 13, h => cases h; exact ⟨in_J3, nmJ3, fun k hk => xm_some tyJ3_ok hk⟩
  | 14, h => cases h; exact ⟨in_J5, nmJ5, fun k hk => xm_some tyJ5_ok hk⟩
  | 15, h => cases h; exact ⟨in_J6, nmJ6, fun k hk => xm_some tyJ6_ok hk⟩
  | 16, h => cases h; exact ⟨in_J23, nmJ23, fun k hk => xm_some tyJ23_ok hk⟩
  | 17, h => cases h; exact ⟨in_J26, nmJ26, fun k hk => xm_some tyJ26_ok hk⟩
  | 18, h => cases h; exact ⟨in_J27, nmJ27, fun k hk => xm_some tyJ27_ok hk⟩
  | 19, h => cases h; exact ⟨in_J29, nmJ29, fun k hk => xm_some tyJ29_ok hk⟩
  | 20, h => cases h; exact ⟨in_J30, nmJ30, fun k hk => xm_some tyJ30_ok hk⟩
  | 21, h => cases h; exact ⟨in_J35, nmJ35, fun k hk => xm_some tyJ35_ok hk⟩
  | n + 22, h => simp [xm_cl] at h
