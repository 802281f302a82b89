/-! ROWS: from the state behind an instruction to the state ahead of it -/
set_option maxRecDepth 100000
theorem pn_StringTableau : plainName "StringTableau" = true := by decide +kernel
theorem pn_StringTableau_GateOperation : plainName "StringTableau$GateOperation" = true := by decide +kernel
theorem pn_StringTableau_MeasureOperation : plainName "StringTableau$MeasureOperation" = true := by decide +kernel
theorem pn_StringTableau_Operation : plainName "StringTableau$Operation" = true := by decide +kernel
theorem pn_StringTableau_ParseException : plainName "StringTableau$ParseException" = true := by decide +kernel
theorem pn_StringTableau_Parser : plainName "StringTableau$Parser" = true := by decide +kernel
theorem pn_StringTableau_Record : plainName "StringTableau$Record" = true := by decide +kernel
theorem pn_StringTableau_Row : plainName "StringTableau$Row" = true := by decide +kernel
theorem pn_StringTableau_State : plainName "StringTableau$State" = true := by decide +kernel
theorem pn_StringTableau_Tableau : plainName "StringTableau$Tableau" = true := by decide +kernel
theorem pn_StringTableau_Tableau_1 : plainName "StringTableau$Tableau$1" = true := by decide +kernel
theorem pn_StringTableau_Word : plainName "StringTableau$Word" = true := by decide +kernel
theorem pn_StringTableauLaw : plainName "StringTableauLaw" = true := by decide +kernel
theorem pn_StringTableauModel : plainName "StringTableauModel" = true := by decide +kernel
theorem pn_java_lang_AbstractStringBuilder : plainName "java/lang/AbstractStringBuilder" = true := by decide +kernel
theorem pn_java_lang_ArrayIndexOutOfBoundsException : plainName "java/lang/ArrayIndexOutOfBoundsException" = true := by decide +kernel
theorem pn_java_lang_Boolean : plainName "java/lang/Boolean" = true := by decide +kernel
theorem pn_java_lang_Character : plainName "java/lang/Character" = true := by decide +kernel
theorem pn_java_lang_Exception : plainName "java/lang/Exception" = true := by decide +kernel
theorem pn_java_lang_IllegalArgumentException : plainName "java/lang/IllegalArgumentException" = true := by decide +kernel
theorem pn_java_lang_IllegalStateException : plainName "java/lang/IllegalStateException" = true := by decide +kernel
theorem pn_java_lang_IndexOutOfBoundsException : plainName "java/lang/IndexOutOfBoundsException" = true := by decide +kernel
theorem pn_java_lang_Integer : plainName "java/lang/Integer" = true := by decide +kernel
theorem pn_java_lang_Long : plainName "java/lang/Long" = true := by decide +kernel
theorem pn_java_lang_RuntimeException : plainName "java/lang/RuntimeException" = true := by decide +kernel
theorem pn_java_lang_String : plainName "java/lang/String" = true := by decide +kernel
theorem pn_java_lang_StringBuilder : plainName "java/lang/StringBuilder" = true := by decide +kernel
theorem pn_java_lang_StringIndexOutOfBoundsException : plainName "java/lang/StringIndexOutOfBoundsException" = true := by decide +kernel
theorem pn_java_lang_StringLatin1 : plainName "java/lang/StringLatin1" = true := by decide +kernel
theorem pn_java_lang_StringUTF16 : plainName "java/lang/StringUTF16" = true := by decide +kernel
theorem pn_java_lang_System_2 : plainName "java/lang/System$2" = true := by decide +kernel
theorem pn_java_lang_Throwable : plainName "java/lang/Throwable" = true := by decide +kernel
theorem pn_java_util_AbstractCollection : plainName "java/util/AbstractCollection" = true := by decide +kernel
theorem pn_java_util_AbstractList : plainName "java/util/AbstractList" = true := by decide +kernel
theorem pn_java_util_AbstractMap : plainName "java/util/AbstractMap" = true := by decide +kernel
theorem pn_java_util_AbstractSet : plainName "java/util/AbstractSet" = true := by decide +kernel
theorem pn_java_util_ArrayDeque : plainName "java/util/ArrayDeque" = true := by decide +kernel
theorem pn_java_util_ArrayDeque_DeqIterator : plainName "java/util/ArrayDeque$DeqIterator" = true := by decide +kernel
theorem pn_java_util_ArrayList : plainName "java/util/ArrayList" = true := by decide +kernel
theorem pn_java_util_Arrays : plainName "java/util/Arrays" = true := by decide +kernel
theorem pn_java_util_HashMap : plainName "java/util/HashMap" = true := by decide +kernel
theorem pn_java_util_HashMap_Node : plainName "java/util/HashMap$Node" = true := by decide +kernel
theorem pn_java_util_HashMap_TreeNode : plainName "java/util/HashMap$TreeNode" = true := by decide +kernel
theorem pn_java_util_HashSet : plainName "java/util/HashSet" = true := by decide +kernel
theorem pn_java_util_LinkedHashMap : plainName "java/util/LinkedHashMap" = true := by decide +kernel
theorem pn_java_util_LinkedHashMap_Entry : plainName "java/util/LinkedHashMap$Entry" = true := by decide +kernel
theorem pn_java_util_NoSuchElementException : plainName "java/util/NoSuchElementException" = true := by decide +kernel
theorem pn_java_util_Objects : plainName "java/util/Objects" = true := by decide +kernel
theorem pn_jdk_internal_util_ArraysSupport : plainName "jdk/internal/util/ArraysSupport" = true := by decide +kernel
theorem pn_jdk_internal_util_Preconditions : plainName "jdk/internal/util/Preconditions" = true := by decide +kernel
section XW
variable {g : xm_G} {Γ : xm_C} {pc n : Nat} {ls : List (Option Value)} {st : List Value} {h : xm_H} {bc bs : Nat}
theorem xm_use {i : xm_I} (hi : xm_Imp g Γ pc i) (k : i ls st h bc bs (xm_W g Γ)) : xm_W g Γ pc ls st h bc bs := hi ls st h bc bs (xm_W g Γ) (fun _ _ _ _ _ _ h => h) k
theorem xw_psh {v : Value} (hi : xm_Imp g Γ pc (xi_psh v n)) (k : xm_W g Γ n ls (v :: st) h bc bs) : xm_W g Γ pc ls st h bc bs := xm_use hi k
theorem xw_ild {i : Nat} {x : Int32} (hi : xm_Imp g Γ pc (xi_ild i n)) (hl : ls[i]? = some (some (.int x))) (k : xm_W g Γ n ls (.int x :: st) h bc bs) : xm_W g Γ pc ls st h bc bs := by
  refine xm_use hi ?_
  unfold xi_ild
  rw [hl]
  exact k
theorem xw_lld {i : Nat} {x : Int64} (hi : xm_Imp g Γ pc (xi_lld i n)) (hl : ls[i]? = some (some (.long x))) (k : xm_W g Γ n ls (.long x :: st) h bc bs) : xm_W g Γ pc ls st h bc bs := by
  refine xm_use hi ?_
  unfold xi_lld
  rw [hl]
  exact k
theorem xw_fld {i : Nat} {x : UInt32} (hi : xm_Imp g Γ pc (xi_fld i n)) (hl : ls[i]? = some (some (.float x))) (k : xm_W g Γ n ls (.float x :: st) h bc bs) : xm_W g Γ pc ls st h bc bs := by
  refine xm_use hi ?_
  unfold xi_fld
  rw [hl]
  exact k
theorem xw_dld {i : Nat} {x : UInt64} (hi : xm_Imp g Γ pc (xi_dld i n)) (hl : ls[i]? = some (some (.double x))) (k : xm_W g Γ n ls (.double x :: st) h bc bs) : xm_W g Γ pc ls st h bc bs := by
  refine xm_use hi ?_
  unfold xi_dld
  rw [hl]
  exact k
theorem xw_ald {i : Nat} {x : Nat} (hi : xm_Imp g Γ pc (xi_ald i n)) (hl : ls[i]? = some (some (.ref x))) (k : xm_W g Γ n ls (.ref x :: st) h bc bs) : xm_W g Γ pc ls st h bc bs := by
  refine xm_use hi ?_
  unfold xi_ald
  rw [hl]
  exact k
theorem xw_aldo {i : Nat} {x : Option Nat} (hi : xm_Imp g Γ pc (xi_ald i n)) (hl : ls[i]? = some (some (va_rf x))) (k : xm_W g Γ n ls (va_rf x :: st) h bc bs) : xm_W g Γ pc ls st h bc bs := by
  refine xm_use hi ?_
  unfold xi_ald
  rw [hl]
  cases x <;> exact k
theorem xw_ist {i : Nat} {x : Int32} {ls' : List (Option Value)} (hi : xm_Imp g Γ pc (xi_ist i n)) (hl : xm_s1 ls i (.int x) = ls') (k : xm_W g Γ n ls' st h bc bs) : xm_W g Γ pc ls (.int x :: st) h bc bs := by
  subst hl
  exact xm_use hi k
theorem xw_fst {i : Nat} {x : UInt32} {ls' : List (Option Value)} (hi : xm_Imp g Γ pc (xi_fst i n)) (hl : xm_s1 ls i (.float x) = ls') (k : xm_W g Γ n ls' st h bc bs) : xm_W g Γ pc ls (.float x :: st) h bc bs := by
  subst hl
  exact xm_use hi k
theorem xw_lst {i : Nat} {x : Int64} {ls' : List (Option Value)} (hi : xm_Imp g Γ pc (xi_lst i n)) (hl : xm_s2 ls i (.long x) = ls') (k : xm_W g Γ n ls' st h bc bs) : xm_W g Γ pc ls (.long x :: st) h bc bs := by
  subst hl
  exact xm_use hi k
theorem xw_dst {i : Nat} {x : UInt64} {ls' : List (Option Value)} (hi : xm_Imp g Γ pc (xi_dst i n)) (hl : xm_s2 ls i (.double x) = ls') (k : xm_W g Γ n ls' st h bc bs) : xm_W g Γ pc ls (.double x :: st) h bc bs := by
  subst hl
  exact xm_use hi k
theorem xw_ast {i : Nat} {x : Nat} {ls' : List (Option Value)} (hi : xm_Imp g Γ pc (xi_ast i n)) (hl : xm_s1 ls i (.ref x) = ls') (k : xm_W g Γ n ls' st h bc bs) : xm_W g Γ pc ls (.ref x :: st) h bc bs := by
  subst hl
  exact xm_use hi k
theorem xw_asto {i : Nat} {x : Option Nat} {ls' : List (Option Value)} (hi : xm_Imp g Γ pc (xi_ast i n)) (hl : xm_s1 ls i (va_rf x) = ls') (k : xm_W g Γ n ls' st h bc bs) : xm_W g Γ pc ls (va_rf x :: st) h bc bs := by
  subst hl
  refine xm_use hi ?_
  cases x <;> exact k
theorem xw_inc {i : Nat} {x v : Int32} {ls' : List (Option Value)} (hi : xm_Imp g Γ pc (xi_inc i v n)) (hl : ls[i]? = some (some (.int x))) (hs : xm_s1 ls i (.int (x + v)) = ls') (k : xm_W g Γ n ls' st h bc bs) : xm_W g Γ pc ls st h bc bs := by
  subst hs
  refine xm_use hi ?_
  unfold xi_inc
  rw [hl]
  exact k
theorem xw_ii {f : Int32 → Int32 → Int32} {x y : Int32} (hi : xm_Imp g Γ pc (xi_ii f n)) (k : xm_W g Γ n ls (.int (f x y) :: st) h bc bs) : xm_W g Γ pc ls (.int y :: .int x :: st) h bc bs := xm_use hi k
theorem xw_id {f : Int32 → Int32 → Int32} {x y : Int32} (hi : xm_Imp g Γ pc (xi_id f n)) (hy : ¬ y = 0) (k : xm_W g Γ n ls (.int (f x y) :: st) h bc bs) : xm_W g Γ pc ls (.int y :: .int x :: st) h bc bs := xm_use hi ⟨hy, k⟩
theorem xw_mm {f : Int32 → Int32 → Int32} {x y : Int32} (hi : xm_Imp g Γ pc (xi_mm f n)) (hs : xm_stk 0 st = true) (k : xm_W g Γ n ls (.int (f x y) :: st) h bc bs) : xm_W g Γ pc ls (.int y :: .int x :: st) h bc bs := xm_use hi ⟨by have := xm_stk_of hs; simpa [xm_stk] using this, k⟩
theorem xw_i1 {f : Int32 → Int32} {x : Int32} (hi : xm_Imp g Γ pc (xi_i1 f n)) (k : xm_W g Γ n ls (.int (f x) :: st) h bc bs) : xm_W g Γ pc ls (.int x :: st) h bc bs := xm_use hi k
theorem xw_i2l {x : Int32} (hi : xm_Imp g Γ pc (xi_i2l n)) (k : xm_W g Γ n ls (.long x.toInt64 :: st) h bc bs) : xm_W g Γ pc ls (.int x :: st) h bc bs := xm_use hi k
theorem xw_l2i {x : Int64} (hi : xm_Imp g Γ pc (xi_l2i n)) (k : xm_W g Γ n ls (.int x.toInt32 :: st) h bc bs) : xm_W g Γ pc ls (.long x :: st) h bc bs := xm_use hi k
theorem xw_i2f {x : Int32} (hi : xm_Imp g Γ pc (xi_i2f n)) (k : xm_W g Γ n ls (.float (FP.i2f x) :: st) h bc bs) : xm_W g Γ pc ls (.int x :: st) h bc bs := xm_use hi k
theorem xw_i2d {x : Int32} (hi : xm_Imp g Γ pc (xi_i2d n)) (k : xm_W g Γ n ls (.double (FP.i2d x) :: st) h bc bs) : xm_W g Γ pc ls (.int x :: st) h bc bs := xm_use hi k
theorem xw_f2d {x : UInt32} (hi : xm_Imp g Γ pc (xi_f2d n)) (hv : vf_n64 (FP.f2d x)) (k : xm_W g Γ n ls (.double (FP.f2d x) :: st) h bc bs) : xm_W g Γ pc ls (.float x :: st) h bc bs := xm_use hi ⟨hv, k⟩
theorem xw_lsub {x y : Int64} (hi : xm_Imp g Γ pc (xi_lsub n)) (k : xm_W g Γ n ls (.long (x - y) :: st) h bc bs) : xm_W g Γ pc ls (.long y :: .long x :: st) h bc bs := xm_use hi k
theorem xw_lcmp {x y : Int64} (hi : xm_Imp g Γ pc (xi_lcmp n)) (k : xm_W g Γ n ls (.int (lg_cmp x y) :: st) h bc bs) : xm_W g Γ pc ls (.long y :: .long x :: st) h bc bs := xm_use hi k
theorem xw_ddiv {x y : UInt64} (hi : xm_Imp g Γ pc (xi_ddiv n)) (hv : vf_n64 (FP.ddiv x y)) (k : xm_W g Γ n ls (.double (FP.ddiv x y) :: st) h bc bs) : xm_W g Γ pc ls (.double y :: .double x :: st) h bc bs := xm_use hi ⟨hv, k⟩
theorem xw_fdiv {x y : UInt32} (hi : xm_Imp g Γ pc (xi_fdiv n)) (hv : vf_n32 (FP.fdiv x y)) (k : xm_W g Γ n ls (.float (FP.fdiv x y) :: st) h bc bs) : xm_W g Γ pc ls (.float y :: .float x :: st) h bc bs := xm_use hi ⟨hv, k⟩
theorem xw_fcmp {op : CmpOp} {x y : UInt32} (hi : xm_Imp g Γ pc (xi_fcmp op n)) (k : xm_W g Γ n ls (.int (Op.cmpValue (FP.fcmp x y) op) :: st) h bc bs) : xm_W g Γ pc ls (.float y :: .float x :: st) h bc bs := xm_use hi k
theorem xw_dcmp {op : CmpOp} {x y : UInt64} (hi : xm_Imp g Γ pc (xi_dcmp op n)) (k : xm_W g Γ n ls (.int (Op.cmpValue (FP.dcmp x y) op) :: st) h bc bs) : xm_W g Γ pc ls (.double y :: .double x :: st) h bc bs := xm_use hi k
theorem xw_dup {v : Value} (hi : xm_Imp g Γ pc (xi_dup n)) (hv : xm_c1 v = true) (k : xm_W g Γ n ls (v :: v :: st) h bc bs) : xm_W g Γ pc ls (v :: st) h bc bs := xm_use hi ⟨hv, k⟩
theorem xw_pop {v : Value} (hi : xm_Imp g Γ pc (xi_pop n)) (hv : xm_c1 v = true) (k : xm_W g Γ n ls st h bc bs) : xm_W g Γ pc ls (v :: st) h bc bs := xm_use hi ⟨hv, k⟩
theorem xw_dup_x1 {v w : Value} (hi : xm_Imp g Γ pc (xi_dup_x1 n)) (hv : xm_c1 v = true ∧ xm_c1 w = true) (k : xm_W g Γ n ls (v :: w :: v :: st) h bc bs) : xm_W g Γ pc ls (v :: w :: st) h bc bs := xm_use hi ⟨hv, k⟩
theorem xw_if {q : Int32 → Prop} {t : Nat} {x : Int32} (hi : xm_Imp g Γ pc (xi_if q t n)) (k1 : q x → xm_W g Γ t ls st h bc bs) (k2 : ¬ q x → xm_W g Γ n ls st h bc bs) : xm_W g Γ pc ls (.int x :: st) h bc bs := xm_use hi ⟨k1, k2⟩
theorem xw_ic {q : Int32 → Int32 → Prop} {t : Nat} {x y : Int32} (hi : xm_Imp g Γ pc (xi_ic q t n)) (k1 : q x y → xm_W g Γ t ls st h bc bs) (k2 : ¬ q x y → xm_W g Γ n ls st h bc bs) : xm_W g Γ pc ls (.int y :: .int x :: st) h bc bs := xm_use hi ⟨k1, k2⟩
theorem xw_goto {t : Nat} (hi : xm_Imp g Γ pc (xi_goto t)) (k : xm_W g Γ t ls st h bc bs) : xm_W g Γ pc ls st h bc bs := xm_use hi k
theorem xw_tsi {lo hi : Int} {tg : List Nat} {dt : Nat} {x : Int32} (h0 : xm_Imp g Γ pc (xi_tsw lo hi tg dt)) {i t : Nat} (ht : tg[i]? = some t) (hx : x.toInt = lo + (i : Int)) (hh : lo + (i : Int) ≤ hi) (k : xm_W g Γ t ls st h bc bs) : xm_W g Γ pc ls (.int x :: st) h bc bs := by
  refine xm_use h0 ⟨fun j u hj hu => ?_, fun hc => by omega⟩
  have e : j = i := by omega
  subst e
  rw [ht] at hj
  cases hj
  exact k
theorem xw_tsd {lo hi : Int} {tg : List Nat} {dt : Nat} {x : Int32} (h0 : xm_Imp g Γ pc (xi_tsw lo hi tg dt)) (hx : x.toInt < lo ∨ hi < x.toInt) (hn : (tg.length : Int) = hi - lo + 1) (k : xm_W g Γ dt ls st h bc bs) : xm_W g Γ pc ls (.int x :: st) h bc bs := by
  refine xm_use h0 ⟨fun j u hj hu => ?_, fun _ => k⟩
  have := (List.getElem?_eq_some_iff.mp hj).1
  omega
theorem xw_lsw {f : Int → Nat} {x : Int32} (hi : xm_Imp g Γ pc (xi_lsw f)) {t : Nat} (ht : f x.toInt = t) (k : xm_W g Γ t ls st h bc bs) : xm_W g Γ pc ls (.int x :: st) h bc bs := by
  subst ht
  exact xm_use hi k
theorem xw_iret {ty : FieldType} {Q : xm_P} {v : Int32} (hi : xm_Imp g Γ pc (xi_iret ty Q)) (hn : narrow ty (.int v) = .int v) (k : Q (some (.int v)) h) : xm_W g Γ pc ls [.int v] h bc bs := xm_use hi ⟨hn, k⟩
theorem xw_vret {Q : xm_P} (hi : xm_Imp g Γ pc (xi_vret Q)) (k : Q none h) : xm_W g Γ pc ls [] h bc bs := xm_use hi k
theorem xw_aret {Q : xm_P} {a : Nat} (hi : xm_Imp g Γ pc (xi_aret Q)) (k : Q (some (.ref a)) h) : xm_W g Γ pc ls [.ref a] h bc bs := xm_use hi ⟨Or.inr ⟨a, rfl⟩, k⟩
theorem xw_areto {Q : xm_P} {a : Option Nat} (hi : xm_Imp g Γ pc (xi_aret Q)) (k : Q (some (va_rf a)) h) : xm_W g Γ pc ls [va_rf a] h bc bs := by
  refine xm_use hi ⟨?_, k⟩
  cases a
  · exact Or.inl rfl
  · exact Or.inr ⟨_, rfl⟩
theorem xw_fret {Q : xm_P} {v : UInt32} (hi : xm_Imp g Γ pc (xi_fret Q)) (k : Q (some (.float v)) h) : xm_W g Γ pc ls [.float v] h bc bs := xm_use hi k
theorem xw_dret {Q : xm_P} {v : UInt64} (hi : xm_Imp g Γ pc (xi_dret Q)) (k : Q (some (.double v)) h) : xm_W g Γ pc ls [.double v] h bc bs := xm_use hi k
theorem xw_sv0 {M' : xm_M} {d' : Nat} {h' : xm_H} {r : Value} (hi : xm_Imp g Γ pc (xi_inv g M' d' 0 n)) (hs : xm_stk 0 (st) = true) (hr : ∀ (Q : xm_P) (X : xm_X), Q (some r) h' → xm_Run g M' d' [] h 0 0 Q X) (k : xm_W g Γ n ls (r :: st) h' bc bs) : xm_W g Γ pc ls (st) h bc bs := xm_use hi ⟨hs, 0, 0, ⟨Nat.zero_le _, Nat.zero_le _⟩, hr _ _ k⟩
theorem xw_su0 {M' : xm_M} {d' : Nat} {h' : xm_H} (hi : xm_Imp g Γ pc (xi_inv g M' d' 0 n)) (hs : xm_stk 0 (st) = true) (hr : ∀ (Q : xm_P) (X : xm_X), Q (none) h' → xm_Run g M' d' [] h 0 0 Q X) (k : xm_W g Γ n ls (st) h' bc bs) : xm_W g Γ pc ls (st) h bc bs := xm_use hi ⟨hs, 0, 0, ⟨Nat.zero_le _, Nat.zero_le _⟩, hr _ _ k⟩
theorem xw_sv1 {M' : xm_M} {d' : Nat} {h' : xm_H} {a1 : Value} {r : Value} (hi : xm_Imp g Γ pc (xi_inv g M' d' 1 n)) (hs : xm_stk 1 (a1 :: st) = true) (hr : ∀ (Q : xm_P) (X : xm_X), Q (some r) h' → xm_Run g M' d' [a1] h 0 0 Q X) (k : xm_W g Γ n ls (r :: st) h' bc bs) : xm_W g Γ pc ls (a1 :: st) h bc bs := xm_use hi ⟨hs, 0, 0, ⟨Nat.zero_le _, Nat.zero_le _⟩, hr _ _ k⟩
theorem xw_su1 {M' : xm_M} {d' : Nat} {h' : xm_H} {a1 : Value} (hi : xm_Imp g Γ pc (xi_inv g M' d' 1 n)) (hs : xm_stk 1 (a1 :: st) = true) (hr : ∀ (Q : xm_P) (X : xm_X), Q (none) h' → xm_Run g M' d' [a1] h 0 0 Q X) (k : xm_W g Γ n ls (st) h' bc bs) : xm_W g Γ pc ls (a1 :: st) h bc bs := xm_use hi ⟨hs, 0, 0, ⟨Nat.zero_le _, Nat.zero_le _⟩, hr _ _ k⟩
theorem xw_sv2 {M' : xm_M} {d' : Nat} {h' : xm_H} {a1 a2 : Value} {r : Value} (hi : xm_Imp g Γ pc (xi_inv g M' d' 2 n)) (hs : xm_stk 2 (a2 :: a1 :: st) = true) (hr : ∀ (Q : xm_P) (X : xm_X), Q (some r) h' → xm_Run g M' d' [a1, a2] h 0 0 Q X) (k : xm_W g Γ n ls (r :: st) h' bc bs) : xm_W g Γ pc ls (a2 :: a1 :: st) h bc bs := xm_use hi ⟨hs, 0, 0, ⟨Nat.zero_le _, Nat.zero_le _⟩, hr _ _ k⟩
theorem xw_su2 {M' : xm_M} {d' : Nat} {h' : xm_H} {a1 a2 : Value} (hi : xm_Imp g Γ pc (xi_inv g M' d' 2 n)) (hs : xm_stk 2 (a2 :: a1 :: st) = true) (hr : ∀ (Q : xm_P) (X : xm_X), Q (none) h' → xm_Run g M' d' [a1, a2] h 0 0 Q X) (k : xm_W g Γ n ls (st) h' bc bs) : xm_W g Γ pc ls (a2 :: a1 :: st) h bc bs := xm_use hi ⟨hs, 0, 0, ⟨Nat.zero_le _, Nat.zero_le _⟩, hr _ _ k⟩
theorem xw_sv3 {M' : xm_M} {d' : Nat} {h' : xm_H} {a1 a2 a3 : Value} {r : Value} (hi : xm_Imp g Γ pc (xi_inv g M' d' 3 n)) (hs : xm_stk 3 (a3 :: a2 :: a1 :: st) = true) (hr : ∀ (Q : xm_P) (X : xm_X), Q (some r) h' → xm_Run g M' d' [a1, a2, a3] h 0 0 Q X) (k : xm_W g Γ n ls (r :: st) h' bc bs) : xm_W g Γ pc ls (a3 :: a2 :: a1 :: st) h bc bs := xm_use hi ⟨hs, 0, 0, ⟨Nat.zero_le _, Nat.zero_le _⟩, hr _ _ k⟩
theorem xw_su3 {M' : xm_M} {d' : Nat} {h' : xm_H} {a1 a2 a3 : Value} (hi : xm_Imp g Γ pc (xi_inv g M' d' 3 n)) (hs : xm_stk 3 (a3 :: a2 :: a1 :: st) = true) (hr : ∀ (Q : xm_P) (X : xm_X), Q (none) h' → xm_Run g M' d' [a1, a2, a3] h 0 0 Q X) (k : xm_W g Γ n ls (st) h' bc bs) : xm_W g Γ pc ls (a3 :: a2 :: a1 :: st) h bc bs := xm_use hi ⟨hs, 0, 0, ⟨Nat.zero_le _, Nat.zero_le _⟩, hr _ _ k⟩
theorem xw_sv4 {M' : xm_M} {d' : Nat} {h' : xm_H} {a1 a2 a3 a4 : Value} {r : Value} (hi : xm_Imp g Γ pc (xi_inv g M' d' 4 n)) (hs : xm_stk 4 (a4 :: a3 :: a2 :: a1 :: st) = true) (hr : ∀ (Q : xm_P) (X : xm_X), Q (some r) h' → xm_Run g M' d' [a1, a2, a3, a4] h 0 0 Q X) (k : xm_W g Γ n ls (r :: st) h' bc bs) : xm_W g Γ pc ls (a4 :: a3 :: a2 :: a1 :: st) h bc bs := xm_use hi ⟨hs, 0, 0, ⟨Nat.zero_le _, Nat.zero_le _⟩, hr _ _ k⟩
theorem xw_su4 {M' : xm_M} {d' : Nat} {h' : xm_H} {a1 a2 a3 a4 : Value} (hi : xm_Imp g Γ pc (xi_inv g M' d' 4 n)) (hs : xm_stk 4 (a4 :: a3 :: a2 :: a1 :: st) = true) (hr : ∀ (Q : xm_P) (X : xm_X), Q (none) h' → xm_Run g M' d' [a1, a2, a3, a4] h 0 0 Q X) (k : xm_W g Γ n ls (st) h' bc bs) : xm_W g Γ pc ls (a4 :: a3 :: a2 :: a1 :: st) h bc bs := xm_use hi ⟨hs, 0, 0, ⟨Nat.zero_le _, Nat.zero_le _⟩, hr _ _ k⟩
theorem xw_sv5 {M' : xm_M} {d' : Nat} {h' : xm_H} {a1 a2 a3 a4 a5 : Value} {r : Value} (hi : xm_Imp g Γ pc (xi_inv g M' d' 5 n)) (hs : xm_stk 5 (a5 :: a4 :: a3 :: a2 :: a1 :: st) = true) (hr : ∀ (Q : xm_P) (X : xm_X), Q (some r) h' → xm_Run g M' d' [a1, a2, a3, a4, a5] h 0 0 Q X) (k : xm_W g Γ n ls (r :: st) h' bc bs) : xm_W g Γ pc ls (a5 :: a4 :: a3 :: a2 :: a1 :: st) h bc bs := xm_use hi ⟨hs, 0, 0, ⟨Nat.zero_le _, Nat.zero_le _⟩, hr _ _ k⟩
theorem xw_su5 {M' : xm_M} {d' : Nat} {h' : xm_H} {a1 a2 a3 a4 a5 : Value} (hi : xm_Imp g Γ pc (xi_inv g M' d' 5 n)) (hs : xm_stk 5 (a5 :: a4 :: a3 :: a2 :: a1 :: st) = true) (hr : ∀ (Q : xm_P) (X : xm_X), Q (none) h' → xm_Run g M' d' [a1, a2, a3, a4, a5] h 0 0 Q X) (k : xm_W g Γ n ls (st) h' bc bs) : xm_W g Γ pc ls (a5 :: a4 :: a3 :: a2 :: a1 :: st) h bc bs := xm_use hi ⟨hs, 0, 0, ⟨Nat.zero_le _, Nat.zero_le _⟩, hr _ _ k⟩
theorem xw_sv6 {M' : xm_M} {d' : Nat} {h' : xm_H} {a1 a2 a3 a4 a5 a6 : Value} {r : Value} (hi : xm_Imp g Γ pc (xi_inv g M' d' 6 n)) (hs : xm_stk 6 (a6 :: a5 :: a4 :: a3 :: a2 :: a1 :: st) = true) (hr : ∀ (Q : xm_P) (X : xm_X), Q (some r) h' → xm_Run g M' d' [a1, a2, a3, a4, a5, a6] h 0 0 Q X) (k : xm_W g Γ n ls (r :: st) h' bc bs) : xm_W g Γ pc ls (a6 :: a5 :: a4 :: a3 :: a2 :: a1 :: st) h bc bs := xm_use hi ⟨hs, 0, 0, ⟨Nat.zero_le _, Nat.zero_le _⟩, hr _ _ k⟩
theorem xw_su6 {M' : xm_M} {d' : Nat} {h' : xm_H} {a1 a2 a3 a4 a5 a6 : Value} (hi : xm_Imp g Γ pc (xi_inv g M' d' 6 n)) (hs : xm_stk 6 (a6 :: a5 :: a4 :: a3 :: a2 :: a1 :: st) = true) (hr : ∀ (Q : xm_P) (X : xm_X), Q (none) h' → xm_Run g M' d' [a1, a2, a3, a4, a5, a6] h 0 0 Q X) (k : xm_W g Γ n ls (st) h' bc bs) : xm_W g Γ pc ls (a6 :: a5 :: a4 :: a3 :: a2 :: a1 :: st) h bc bs := xm_use hi ⟨hs, 0, 0, ⟨Nat.zero_le _, Nat.zero_le _⟩, hr _ _ k⟩
theorem xw_sv7 {M' : xm_M} {d' : Nat} {h' : xm_H} {a1 a2 a3 a4 a5 a6 a7 : Value} {r : Value} (hi : xm_Imp g Γ pc (xi_inv g M' d' 7 n)) (hs : xm_stk 7 (a7 :: a6 :: a5 :: a4 :: a3 :: a2 :: a1 :: st) = true) (hr : ∀ (Q : xm_P) (X : xm_X), Q (some r) h' → xm_Run g M' d' [a1, a2, a3, a4, a5, a6, a7] h 0 0 Q X) (k : xm_W g Γ n ls (r :: st) h' bc bs) : xm_W g Γ pc ls (a7 :: a6 :: a5 :: a4 :: a3 :: a2 :: a1 :: st) h bc bs := xm_use hi ⟨hs, 0, 0, ⟨Nat.zero_le _, Nat.zero_le _⟩, hr _ _ k⟩
theorem xw_su7 {M' : xm_M} {d' : Nat} {h' : xm_H} {a1 a2 a3 a4 a5 a6 a7 : Value} (hi : xm_Imp g Γ pc (xi_inv g M' d' 7 n)) (hs : xm_stk 7 (a7 :: a6 :: a5 :: a4 :: a3 :: a2 :: a1 :: st) = true) (hr : ∀ (Q : xm_P) (X : xm_X), Q (none) h' → xm_Run g M' d' [a1, a2, a3, a4, a5, a6, a7] h 0 0 Q X) (k : xm_W g Γ n ls (st) h' bc bs) : xm_W g Γ pc ls (a7 :: a6 :: a5 :: a4 :: a3 :: a2 :: a1 :: st) h bc bs := xm_use hi ⟨hs, 0, 0, ⟨Nat.zero_le _, Nat.zero_le _⟩, hr _ _ k⟩
theorem xw_sv8 {M' : xm_M} {d' : Nat} {h' : xm_H} {a1 a2 a3 a4 a5 a6 a7 a8 : Value} {r : Value} (hi : xm_Imp g Γ pc (xi_inv g M' d' 8 n)) (hs : xm_stk 8 (a8 :: a7 :: a6 :: a5 :: a4 :: a3 :: a2 :: a1 :: st) = true) (hr : ∀ (Q : xm_P) (X : xm_X), Q (some r) h' → xm_Run g M' d' [a1, a2, a3, a4, a5, a6, a7, a8] h 0 0 Q X) (k : xm_W g Γ n ls (r :: st) h' bc bs) : xm_W g Γ pc ls (a8 :: a7 :: a6 :: a5 :: a4 :: a3 :: a2 :: a1 :: st) h bc bs := xm_use hi ⟨hs, 0, 0, ⟨Nat.zero_le _, Nat.zero_le _⟩, hr _ _ k⟩
theorem xw_su8 {M' : xm_M} {d' : Nat} {h' : xm_H} {a1 a2 a3 a4 a5 a6 a7 a8 : Value} (hi : xm_Imp g Γ pc (xi_inv g M' d' 8 n)) (hs : xm_stk 8 (a8 :: a7 :: a6 :: a5 :: a4 :: a3 :: a2 :: a1 :: st) = true) (hr : ∀ (Q : xm_P) (X : xm_X), Q (none) h' → xm_Run g M' d' [a1, a2, a3, a4, a5, a6, a7, a8] h 0 0 Q X) (k : xm_W g Γ n ls (st) h' bc bs) : xm_W g Γ pc ls (a8 :: a7 :: a6 :: a5 :: a4 :: a3 :: a2 :: a1 :: st) h bc bs := xm_use hi ⟨hs, 0, 0, ⟨Nat.zero_le _, Nat.zero_le _⟩, hr _ _ k⟩
end XW
def xm_nl (x : Int32) : List Int32 → Prop
  | [] => True
  | v :: r => ¬ x = v ∧ xm_nl x r
theorem xm_nl_m {x : Int32} : ∀ (vs : List Int32), xm_nl x vs → ∀ v ∈ vs, ¬ x = v
  | [], _, v, hv => by cases hv
  | w :: r, h, v, hv => by
    rcases List.mem_cons.mp hv with rfl | hv
    · exact h.1
    · exact xm_nl_m r h.2 v hv
theorem xm_tsd (x : Int32) {lo hi : Int} (vs : List Int32) (hv : vs.map Int32.toInt = (List.range vs.length).map (fun i : Nat => lo + (i : Int)) ∧ hi = lo + (vs.length : Int) - 1) (h : xm_nl x vs) : x.toInt < lo ∨ hi < x.toInt := by
  by_cases c : x.toInt < lo ∨ hi < x.toInt
  · exact c
  · exfalso
    have c1 : lo ≤ x.toInt := by omega
    have c2 : (x.toInt - lo).toNat < vs.length := by omega
    have e : x.toInt ∈ vs.map Int32.toInt := by
      rw [hv.1]
      refine List.mem_map.mpr ⟨(x.toInt - lo).toNat, List.mem_range.mpr c2, ?_⟩
      omega
    obtain ⟨v, hm, e2⟩ := List.mem_map.mp e
    exact xm_nl_m vs h v hm (Int32.toInt_inj.mp e2).symm
theorem xm_lsd (x : Int32) {pc dt : Nat} {ps : List (Int × Int)} {dflt : Int} (hd : (pc : Int) + dflt = (dt : Int)) (hv : decide (∀ q ∈ ps, -2147483648 ≤ q.1 ∧ q.1 < 2147483648) = true) (h : xm_nl x (ps.map (fun q => Int32.ofInt q.1))) : xm_lsf pc ps dflt x.toInt = dt := by
  have key : ∀ (ps : List (Int × Int)), (∀ q ∈ ps, -2147483648 ≤ q.1 ∧ q.1 < 2147483648) → xm_nl x (ps.map (fun q => Int32.ofInt q.1)) → Op.lookupswitch.offset ps dflt x.toInt = dflt := by
    intro ps
    induction ps with
    | nil => intro _ _; rw [Op.lookupswitch.offset_nil]
    | cons q r ih =>
      intro h1 h2
      obtain ⟨a, b⟩ := q
      rw [Op.lookupswitch.offset_cons]
      have h3 := h1 (a, b) List.mem_cons_self
      rw [if_neg]
      · exact ih (fun q hq => h1 q (List.mem_cons_of_mem _ hq)) h2.2
      · intro e
        refine h2.1 ?_
        apply Int32.toInt_inj.mp
        show x.toInt = (Int32.ofInt a).toInt
        rw [Int32.toInt_ofInt_of_le (by simpa using h3.1) (by simpa using h3.2)]
        omega
  unfold xm_lsf
  rw [key ps (of_decide_eq_true hv) h, hd]
  rfl
