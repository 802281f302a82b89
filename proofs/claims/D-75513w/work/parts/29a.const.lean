/-! STATICS, casts to arrays, lookup switches, the default fields of operations -/
set_option maxRecDepth 100000
def xi_castA (ty : FieldType) (n : Nat) : xm_I := fun ls st h bc bs k => match st with
  | .null :: r => k n ls (.null :: r) h bc bs
  | .ref a :: r => ∃ (w : Bool) (A : vp_A), h a = some (w, .inl (ty, A)) ∧ k n ls (.ref a :: r) h bc bs
  | _ => False
theorem xs_castB {g : xm_G} {Γ : xm_C} {M : xm_M} {d : Nat} {Q : xm_P} {X : xm_X} {pc : Nat} (hG : xm_Gw g) (hΓ : xm_ok g Γ M d Q X) {ty : FieldType} {T : String} {index : Nat} (hT : "[" ++ ty.toString = T) (hcl : Cond.classLink M.1.cls index T ∈ lw_all) (hd : decode M.2.1 pc = .ok (.checkcast index, 3)) : xm_Imp g Γ pc (xi_castA ty (pc + 3)) := xs_castA hG hΓ hT hcl hd
def xm_lsf (pc : Nat) (ps : List (Int × Int)) (dflt : Int) : Int → Nat := fun z => ((pc : Int) + Op.lookupswitch.offset ps dflt z).toNat
theorem xm_lso (pc : Nat) (dflt : Int) (hd : 0 ≤ (pc : Int) + dflt) : ∀ (ps : List (Int × Int)), (ps.all fun q => decide (0 ≤ (pc : Int) + q.2)) = true → ∀ z : Int, 0 ≤ (pc : Int) + Op.lookupswitch.offset ps dflt z
  | [], _, z => by rw [Op.lookupswitch.offset_nil]; exact hd
  | (a, o) :: r, h, z => by
    rw [List.all_cons, Bool.and_eq_true, decide_eq_true_eq] at h
    rw [Op.lookupswitch.offset_cons]
    split
    · exact h.1
    · exact xm_lso pc dflt hd r h.2 z
theorem xm_lsk {pc : Nat} {dflt : Int} {ps : List (Int × Int)} (hd : decide (0 ≤ (pc : Int) + dflt) = true) (h : (ps.all fun q => decide (0 ≤ (pc : Int) + q.2)) = true) : ∀ z : Int, (pc : Int) + Op.lookupswitch.offset ps dflt z = ((xm_lsf pc ps dflt z : Nat) : Int) := by
  intro z
  unfold xm_lsf
  exact (Int.toNat_of_nonneg (xm_lso pc dflt (of_decide_eq_true hd) ps h z)).symm
def tyM_ : Nat → FieldType := fun k => match k with
  | 0 => .int
  | 1 => .object "StringTableau$Row"
  | 2 => .int
  | 3 => .int
  | _ => .object "StringTableau"
def tyG_ : Nat → FieldType := fun k => match k with
  | 0 => .int
  | 1 => .int
  | 2 => .int
  | 3 => .int
  | _ => .object "StringTableau"
theorem tyM_ok : ∀ k, k < 6 → parseFieldDescriptor (TM_ k).2.2.1 = some (tyM_ k) := by decide +kernel
theorem tyG_ok : ∀ k, k < 6 → parseFieldDescriptor (TG_ k).2.2.1 = some (tyG_ k) := by decide +kernel
section XSB
variable {g : xm_G}
theorem st_COMPACT_STRINGS (hG : xm_Gw g) : (Term.static "java/lang/String" "COMPACT_STRINGS" "Z").eval #[] g.2.1 none [] g.2.1 = some (.int 1) := xm_sti hG (by decide +kernel)
theorem st_DEFAULTCAPACITY_EMPTY_ELEMENTDATA (hG : xm_Gw g) : (Term.static "java/util/ArrayList" "DEFAULTCAPACITY_EMPTY_ELEMENTDATA" "[Ljava/lang/Object;").eval #[] g.2.1 none [] g.2.1 = some (xm_stv g "java/util/ArrayList" "DEFAULTCAPACITY_EMPTY_ELEMENTDATA" "[Ljava/lang/Object;") := xm_str hG (by decide +kernel)
theorem st_DigitOnes (hG : xm_Gw g) : (Term.static "java/lang/Integer" "DigitOnes" "[B").eval #[] g.2.1 none [] g.2.1 = some (xm_stv g "java/lang/Integer" "DigitOnes" "[B") := xm_str hG (by decide +kernel)
theorem st_DigitTens (hG : xm_Gw g) : (Term.static "java/lang/Integer" "DigitTens" "[B").eval #[] g.2.1 none [] g.2.1 = some (xm_stv g "java/lang/Integer" "DigitTens" "[B") := xm_str hG (by decide +kernel)
theorem st_FALSE (hG : xm_Gw g) : (Term.static "java/lang/Boolean" "FALSE" "Ljava/lang/Boolean;").eval #[] g.2.1 none [] g.2.1 = some (xm_stv g "java/lang/Boolean" "FALSE" "Ljava/lang/Boolean;") := xm_ste hG (cls := "java/lang/Boolean") (by decide +kernel)
theorem st_TRUE (hG : xm_Gw g) : (Term.static "java/lang/Boolean" "TRUE" "Ljava/lang/Boolean;").eval #[] g.2.1 none [] g.2.1 = some (xm_stv g "java/lang/Boolean" "TRUE" "Ljava/lang/Boolean;") := xm_ste hG (cls := "java/lang/Boolean") (by decide +kernel)
theorem st_PRESENT (hG : xm_Gw g) : (Term.static "java/util/HashSet" "PRESENT" "Ljava/lang/Object;").eval #[] g.2.1 none [] g.2.1 = some (xm_stv g "java/util/HashSet" "PRESENT" "Ljava/lang/Object;") := xm_ste hG (cls := "java/lang/Object") (by decide +kernel)
theorem st_SIOOBE_FORMATTER (hG : xm_Gw g) : (Term.static "jdk/internal/util/Preconditions" "SIOOBE_FORMATTER" "Ljava/util/function/BiFunction;").eval #[] g.2.1 none [] g.2.1 = some (xm_stv g "jdk/internal/util/Preconditions" "SIOOBE_FORMATTER" "Ljava/util/function/BiFunction;") := xm_str hG (by decide +kernel)
theorem st_SUPPRESSED_SENTINEL (hG : xm_Gw g) : (Term.static "java/lang/Throwable" "SUPPRESSED_SENTINEL" "Ljava/util/List;").eval #[] g.2.1 none [] g.2.1 = some (xm_stv g "java/lang/Throwable" "SUPPRESSED_SENTINEL" "Ljava/util/List;") := xm_str hG xm_s5
theorem st_UNASSIGNED_STACK (hG : xm_Gw g) : (Term.static "java/lang/Throwable" "UNASSIGNED_STACK" "[Ljava/lang/StackTraceElement;").eval #[] g.2.1 none [] g.2.1 = some (xm_stv g "java/lang/Throwable" "UNASSIGNED_STACK" "[Ljava/lang/StackTraceElement;") := xm_str hG xm_s4
end XSB
