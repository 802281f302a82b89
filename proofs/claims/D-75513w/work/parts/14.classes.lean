/-! THE CLASSES whose objects are known by their fields, by number -/
set_option maxRecDepth 100000
/-- a gate operation: of its two fields 'this$0', which hold the same, the own one alone -/
def TG_ : u_T := fun k => match k with
  | 0 => ("StringTableau$Operation", "kind", "I", true)
  | 1 => ("StringTableau$GateOperation", "a", "I", true)
  | 2 => ("StringTableau$GateOperation", "b", "I", true)
  | 3 => ("StringTableau$GateOperation", "when", "I", true)
  | 4 => ("StringTableau$GateOperation", "this$0", "LStringTableau;", true)
  | _ => ("StringTableau$Operation", "this$0", "LStringTableau;", true)
def TM_ : u_T := fun k => match k with
  | 0 => ("StringTableau$Operation", "kind", "I", true)
  | 1 => ("StringTableau$MeasureOperation", "string", "LStringTableau$Row;", true)
  | 2 => ("StringTableau$MeasureOperation", "told", "I", true)
  | 3 => ("StringTableau$MeasureOperation", "number", "I", true)
  | 4 => ("StringTableau$MeasureOperation", "this$0", "LStringTableau;", true)
  | _ => ("StringTableau$Operation", "this$0", "LStringTableau;", true)
def xm_cl : List vw_C := [(RX1, TX1, 9), (RX2, TX2, 7), (RX3, TX3, 1), (RX4, TX4, 3), (RX5, TX5, 42), (RX6, TX6, 11), (RX7, TX7, 8), (RX9, TM_, 6), (RX10, TG_, 6), (RX11, TX11, 2), (RX12, TX12, 2), (RX13, TX13, 2),
  (RJ2, TJ2, 3), (RJ3, TJ3, 3), (RJ5, TJ5, 4), (RJ6, TJ6, 4), (RJ23, TJ23, 4), (RJ26, TJ26, 8), (RJ27, TJ27, 12), (RJ29, TJ29, 4), (RJ30, TJ30, 6), (RJ35, TJ35, 1)]
def xm_tl : List FieldType := [.int, .byte, .boolean, .long, .double, .char, .short, .object "java/lang/Object", .object "StringTableau$Row", .object "StringTableau$Tableau", .object "java/util/HashMap$Node"]
theorem in_G : ∀ w ∈ u_ws RX10 TG_ 6, w ∈ lw_all := lw_in (u_ws RX10 TG_ 6) [1110, 1102, 1104, 1106, 1108, 1111] (by decide +kernel) (by decide +kernel)
theorem in_M : ∀ w ∈ u_ws RX9 TM_ 6, w ∈ lw_all := lw_in (u_ws RX9 TM_ 6) [1012, 1004, 1006, 1008, 1010, 1014] (by decide +kernel) (by decide +kernel)
/-- two fields are not the same: by their names, or, final ones, by their classes -/
def xm_ap (T : u_T) (a b : Nat) : Prop := (T a).2.1 ≠ (T b).2.1 ∨ ((T a).2.2.2 = true ∧ (T b).2.2.2 = true ∧ (T a).1 ≠ (T b).1)
theorem xm_apn {T : u_T} {N : Nat} (h : ∀ a, a < N → ∀ b, b < N → a ≠ b → (T a).2.1 ≠ (T b).2.1) : ∀ a, a < N → ∀ b, b < N → a ≠ b → xm_ap T a b := fun a ha b hb hne => Or.inl (h a ha b hb hne)
theorem nmG : ∀ a, a < 6 → ∀ b, b < 6 → a ≠ b → xm_ap TG_ a b := by unfold xm_ap; decide +kernel
theorem nmM : ∀ a, a < 6 → ∀ b, b < 6 → a ≠ b → xm_ap TM_ a b := by unfold xm_ap; decide +kernel
theorem tyG : ∀ k, k < 6 → (parseFieldDescriptor (TG_ k).2.2.1).isSome = true := by decide +kernel
theorem tyM : ∀ k, k < 6 → (parseFieldDescriptor (TM_ k).2.2.1).isSome = true := by decide +kernel
def xm_fok (r : vw_C) : Prop := (∀ w ∈ u_ws r.1 r.2.1 r.2.2, w ∈ lw_all) ∧ (∀ a, a < r.2.2 → ∀ b, b < r.2.2 → a ≠ b → xm_ap r.2.1 a b) ∧ ∀ k, k < r.2.2 → (parseFieldDescriptor (r.2.1 k).2.2.1).isSome = true
theorem xm_some {k N : Nat} {T : u_T} {ty : Nat → FieldType} (h : ∀ k, k < N → parseFieldDescriptor (T k).2.2.1 = some (ty k)) (hk : k < N) : (parseFieldDescriptor (T k).2.2.1).isSome = true := by
  rw [h k hk]
  rfl
theorem xm_cok : ∀ (ci : Nat) (r : vw_C), xm_cl[ci]? = some r → xm_fok r := by
  intro ci r h
  match ci, h with
  | 0, h => cases h; exact ⟨in_X1, xm_apn nmX1, fun k hk => xm_some tyX1_ok hk⟩
  | 1, h => cases h; exact ⟨in_X2, xm_apn nmX2, fun k hk => xm_some tyX2_ok hk⟩
  | 2, h => cases h; exact ⟨in_X3, xm_apn nmX3, fun k hk => xm_some tyX3_ok hk⟩
  | 3, h => cases h; exact ⟨in_X4, xm_apn nmX4, fun k hk => xm_some tyX4_ok hk⟩
  | 4, h => cases h; exact ⟨in_X5, xm_apn nmX5, fun k hk => xm_some tyX5_ok hk⟩
  | 5, h => cases h; exact ⟨in_X6, xm_apn nmX6, fun k hk => xm_some tyX6_ok hk⟩
  | 6, h => cases h; exact ⟨in_X7, xm_apn nmX7, fun k hk => xm_some tyX7_ok hk⟩
  | 7, h => cases h; exact ⟨in_M, nmM, tyM⟩
  | 8, h => cases h; exact ⟨in_G, nmG, tyG⟩
  | 9, h => cases h; exact ⟨in_X11, xm_apn nmX11, fun k hk => xm_some tyX11_ok hk⟩
  | 10, h => cases h; exact ⟨in_X12, xm_apn nmX12, fun k hk => xm_some tyX12_ok hk⟩
  | 11, h => cases h; exact ⟨in_X13, xm_apn nmX13, fun k hk => xm_some tyX13_ok hk⟩
  | 12, h => cases h; exact ⟨in_J2, xm_apn nmJ2, fun k hk => xm_some tyJ2_ok hk⟩
  | 13, h => cases h; exact ⟨in_J3, xm_apn nmJ3, fun k hk => xm_some tyJ3_ok hk⟩
  | 14, h => cases h; exact ⟨in_J5, xm_apn nmJ5, fun k hk => xm_some tyJ5_ok hk⟩
  | 15, h => cases h; exact ⟨in_J6, xm_apn nmJ6, fun k hk => xm_some tyJ6_ok hk⟩
  | 16, h => cases h; exact ⟨in_J23, xm_apn nmJ23, fun k hk => xm_some tyJ23_ok hk⟩
  | 17, h => cases h; exact ⟨in_J26, xm_apn nmJ26, fun k hk => xm_some tyJ26_ok hk⟩
  | 18, h => cases h; exact ⟨in_J27, xm_apn nmJ27, fun k hk => xm_some tyJ27_ok hk⟩
  | 19, h => cases h; exact ⟨in_J29, xm_apn nmJ29, fun k hk => xm_some tyJ29_ok hk⟩
  | 20, h => cases h; exact ⟨in_J30, xm_apn nmJ30, fun k hk => xm_some tyJ30_ok hk⟩
  | 21, h => cases h; exact ⟨in_J35, xm_apn nmJ35, fun k hk => xm_some tyJ35_ok hk⟩
  | n + 22, h => simp [xm_cl] at h
/-- the slots of an object's fields are apart -/
theorem xm_apart {args : Array Value} {s : State} {C : String} {T : u_T} {N ci : Nat} {D : va_G} {cl : List vw_C} {tys : List (ClassId × FieldType)} {Ts : List Cond} (hts : ∀ w ∈ Ts, w.before args s = true) (hin : ∀ w ∈ u_ws C T N, w ∈ Ts) (ty : Nat → FieldType) (hty : ∀ k, k < N → parseFieldDescriptor (T k).2.2.1 = some (ty k)) (hnm : ∀ a, a < N → ∀ b, b < N → a ≠ b → xm_ap T a b) (hK : va_K D cl tys s) (hc : cl[ci]? = some (C, T, N)) : ∀ x y, x < N → y < N → x ≠ y → (D.2 ci) x ≠ (D.2 ci) y := by
  intro x y hx hy hne
  obtain ⟨hS, -⟩ := hK.1 ci _ hc
  obtain ⟨c1, k1, i1, fa, hia, ea⟩ := hS x hx
  obtain ⟨c2, k2, i2, fb, hib, eb⟩ := hS y hy
  rw [← ea, ← eb]
  rcases hnm x hx y hy hne with h | ⟨h1, h2, h3⟩
  · refine u_apart (u_lays hts hin hx) (u_lays hts hin hy) hia hib ?_
    rw [(State.fieldFound?_type hia (hty x hx)).1, (State.fieldFound?_type hib (hty y hy)).1]
    exact h
  · have la := hts _ (hin _ (u_in_lay hx))
    have lb := hts _ (hin _ (u_in_lay hy))
    unfold u_lay at la lb
    rw [if_pos h1] at la
    rw [if_pos h2] at lb
    obtain ⟨c, k, c', k', i, f, p1, p2, p3, -, -, -, p7, -, d, p9, p10, -⟩ := Cond.laysFinal_spec la
    obtain ⟨cb, kb, cb', kb', ib, fb', r1, r2, r3, -, -, -, r7, -, d', r9, r10, -⟩ := Cond.laysFinal_spec lb
    cases hia.symm.trans p3
    cases hib.symm.trans r3
    cases p1.symm.trans r1
    intro e
    rw [e] at p9
    cases p9.symm.trans r9
    obtain ⟨ka, a1, a2⟩ := Vm.findClass_spec p7
    obtain ⟨kb2, b1, b2⟩ := Vm.findClass_spec r7
    have e1 := (State.fieldFound?_spec hia).1
    have e2 := (State.fieldFound?_spec hib).1
    cases a1.symm.trans e1
    cases b1.symm.trans e2
    exact h3 (a2.symm.trans (p10.symm.trans (r10.trans b2)))
