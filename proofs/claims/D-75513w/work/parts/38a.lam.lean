/-! LAMBDAS: their sites, what a site gives, and the call of one (0 to 8: gates; 9, 10: bits) -/
set_option maxRecDepth 100000
def xm_ls : Nat → MethodName × Nat × Nat × Lambda.Shape
  | 0 => ({ cls := "StringTableau", name := "gateOf", desc := "(I)LStringTableau$Gate;" }, 48, 76, { iface := "StringTableau$Gate", name := "on", sam := ({ parameters := [(FieldType.object "StringTableau$Row"), FieldType.int, FieldType.int], returnType := (Option.none : Option FieldType) } : MethodDescriptor), captured := [], kind := 6, implClass := "StringTableau", implName := "lambda$gateOf$0", implDesc := ({ parameters := [(FieldType.object "StringTableau$Row"), FieldType.int, FieldType.int], returnType := (Option.none : Option FieldType) } : MethodDescriptor), implItf := false, inst := ({ parameters := [(FieldType.object "StringTableau$Row"), FieldType.int, FieldType.int], returnType := (Option.none : Option FieldType) } : MethodDescriptor) })
  | 1 => ({ cls := "StringTableau", name := "gateOf", desc := "(I)LStringTableau$Gate;" }, 56, 80, { iface := "StringTableau$Gate", name := "on", sam := ({ parameters := [(FieldType.object "StringTableau$Row"), FieldType.int, FieldType.int], returnType := (Option.none : Option FieldType) } : MethodDescriptor), captured := [], kind := 6, implClass := "StringTableau", implName := "lambda$gateOf$1", implDesc := ({ parameters := [(FieldType.object "StringTableau$Row"), FieldType.int, FieldType.int], returnType := (Option.none : Option FieldType) } : MethodDescriptor), implItf := false, inst := ({ parameters := [(FieldType.object "StringTableau$Row"), FieldType.int, FieldType.int], returnType := (Option.none : Option FieldType) } : MethodDescriptor) })
  | 2 => ({ cls := "StringTableau", name := "gateOf", desc := "(I)LStringTableau$Gate;" }, 64, 81, { iface := "StringTableau$Gate", name := "on", sam := ({ parameters := [(FieldType.object "StringTableau$Row"), FieldType.int, FieldType.int], returnType := (Option.none : Option FieldType) } : MethodDescriptor), captured := [], kind := 6, implClass := "StringTableau", implName := "lambda$gateOf$2", implDesc := ({ parameters := [(FieldType.object "StringTableau$Row"), FieldType.int, FieldType.int], returnType := (Option.none : Option FieldType) } : MethodDescriptor), implItf := false, inst := ({ parameters := [(FieldType.object "StringTableau$Row"), FieldType.int, FieldType.int], returnType := (Option.none : Option FieldType) } : MethodDescriptor) })
  | 3 => ({ cls := "StringTableau", name := "gateOf", desc := "(I)LStringTableau$Gate;" }, 72, 82, { iface := "StringTableau$Gate", name := "on", sam := ({ parameters := [(FieldType.object "StringTableau$Row"), FieldType.int, FieldType.int], returnType := (Option.none : Option FieldType) } : MethodDescriptor), captured := [], kind := 6, implClass := "StringTableau", implName := "lambda$gateOf$3", implDesc := ({ parameters := [(FieldType.object "StringTableau$Row"), FieldType.int, FieldType.int], returnType := (Option.none : Option FieldType) } : MethodDescriptor), implItf := false, inst := ({ parameters := [(FieldType.object "StringTableau$Row"), FieldType.int, FieldType.int], returnType := (Option.none : Option FieldType) } : MethodDescriptor) })
  | 4 => ({ cls := "StringTableau", name := "gateOf", desc := "(I)LStringTableau$Gate;" }, 80, 83, { iface := "StringTableau$Gate", name := "on", sam := ({ parameters := [(FieldType.object "StringTableau$Row"), FieldType.int, FieldType.int], returnType := (Option.none : Option FieldType) } : MethodDescriptor), captured := [], kind := 6, implClass := "StringTableau", implName := "lambda$gateOf$4", implDesc := ({ parameters := [(FieldType.object "StringTableau$Row"), FieldType.int, FieldType.int], returnType := (Option.none : Option FieldType) } : MethodDescriptor), implItf := false, inst := ({ parameters := [(FieldType.object "StringTableau$Row"), FieldType.int, FieldType.int], returnType := (Option.none : Option FieldType) } : MethodDescriptor) })
  | 5 => ({ cls := "StringTableau", name := "gateOf", desc := "(I)LStringTableau$Gate;" }, 88, 84, { iface := "StringTableau$Gate", name := "on", sam := ({ parameters := [(FieldType.object "StringTableau$Row"), FieldType.int, FieldType.int], returnType := (Option.none : Option FieldType) } : MethodDescriptor), captured := [], kind := 6, implClass := "StringTableau", implName := "lambda$gateOf$5", implDesc := ({ parameters := [(FieldType.object "StringTableau$Row"), FieldType.int, FieldType.int], returnType := (Option.none : Option FieldType) } : MethodDescriptor), implItf := false, inst := ({ parameters := [(FieldType.object "StringTableau$Row"), FieldType.int, FieldType.int], returnType := (Option.none : Option FieldType) } : MethodDescriptor) })
  | 6 => ({ cls := "StringTableau", name := "gateOf", desc := "(I)LStringTableau$Gate;" }, 96, 85, { iface := "StringTableau$Gate", name := "on", sam := ({ parameters := [(FieldType.object "StringTableau$Row"), FieldType.int, FieldType.int], returnType := (Option.none : Option FieldType) } : MethodDescriptor), captured := [], kind := 6, implClass := "StringTableau", implName := "lambda$gateOf$6", implDesc := ({ parameters := [(FieldType.object "StringTableau$Row"), FieldType.int, FieldType.int], returnType := (Option.none : Option FieldType) } : MethodDescriptor), implItf := false, inst := ({ parameters := [(FieldType.object "StringTableau$Row"), FieldType.int, FieldType.int], returnType := (Option.none : Option FieldType) } : MethodDescriptor) })
  | 7 => ({ cls := "StringTableau", name := "gateOf", desc := "(I)LStringTableau$Gate;" }, 104, 86, { iface := "StringTableau$Gate", name := "on", sam := ({ parameters := [(FieldType.object "StringTableau$Row"), FieldType.int, FieldType.int], returnType := (Option.none : Option FieldType) } : MethodDescriptor), captured := [], kind := 6, implClass := "StringTableau", implName := "lambda$gateOf$7", implDesc := ({ parameters := [(FieldType.object "StringTableau$Row"), FieldType.int, FieldType.int], returnType := (Option.none : Option FieldType) } : MethodDescriptor), implItf := false, inst := ({ parameters := [(FieldType.object "StringTableau$Row"), FieldType.int, FieldType.int], returnType := (Option.none : Option FieldType) } : MethodDescriptor) })
  | 8 => ({ cls := "StringTableau", name := "gateOf", desc := "(I)LStringTableau$Gate;" }, 112, 87, { iface := "StringTableau$Gate", name := "on", sam := ({ parameters := [(FieldType.object "StringTableau$Row"), FieldType.int, FieldType.int], returnType := (Option.none : Option FieldType) } : MethodDescriptor), captured := [], kind := 6, implClass := "StringTableau", implName := "lambda$gateOf$8", implDesc := ({ parameters := [(FieldType.object "StringTableau$Row"), FieldType.int, FieldType.int], returnType := (Option.none : Option FieldType) } : MethodDescriptor), implItf := false, inst := ({ parameters := [(FieldType.object "StringTableau$Row"), FieldType.int, FieldType.int], returnType := (Option.none : Option FieldType) } : MethodDescriptor) })
  | 9 => ({ cls := "StringTableau$Tableau", name := "canonical", desc := "()LStringTableau$Tableau;" }, 6, 104, { iface := "StringTableau$Bit", name := "of", sam := ({ parameters := [(FieldType.object "StringTableau$Row"), FieldType.int], returnType := (Option.some FieldType.boolean) } : MethodDescriptor), captured := [], kind := 6, implClass := "StringTableau$Tableau", implName := "lambda$canonical$0", implDesc := ({ parameters := [(FieldType.object "StringTableau$Row"), FieldType.int], returnType := (Option.some FieldType.boolean) } : MethodDescriptor), implItf := false, inst := ({ parameters := [(FieldType.object "StringTableau$Row"), FieldType.int], returnType := (Option.some FieldType.boolean) } : MethodDescriptor) })
  | _ => ({ cls := "StringTableau$Tableau", name := "canonical", desc := "()LStringTableau$Tableau;" }, 17, 111, { iface := "StringTableau$Bit", name := "of", sam := ({ parameters := [(FieldType.object "StringTableau$Row"), FieldType.int], returnType := (Option.some FieldType.boolean) } : MethodDescriptor), captured := [], kind := 6, implClass := "StringTableau$Tableau", implName := "lambda$canonical$1", implDesc := ({ parameters := [(FieldType.object "StringTableau$Row"), FieldType.int], returnType := (Option.some FieldType.boolean) } : MethodDescriptor), implItf := false, inst := ({ parameters := [(FieldType.object "StringTableau$Row"), FieldType.int], returnType := (Option.some FieldType.boolean) } : MethodDescriptor) })
/-- the object that a site gives -/
def xm_la (g : xm_G) (i : Nat) : Nat := match g.2.1.lambdaAt? (xm_ls i).1 (xm_ls i).2.1 (xm_ls i).2.2.1 (xm_ls i).2.2.2 with
  | some (_, some a) => a
  | _ => 0
def xm_lcond (i : Nat) : Cond := Cond.lambdaSite (xm_ls i).1 (xm_ls i).2.1 (xm_ls i).2.2.1 (xm_ls i).2.2.2
theorem xm_lin : ∀ i : Fin 11, xm_lcond i.val ∈ flatC (Jvm.Cond.and given_1 narrow_1) := by decide +kernel
theorem xm_lcap : ∀ i : Fin 11, (xm_ls i.val).2.2.2.captured = [] := by decide +kernel
def xm_named (Γ : xm_C) (M : xm_M) : Prop := match Γ with
  | (_, _, _, s, m, _, _, _, _, _) => s.methodNamed? M.1 = some m
/-- a contract out of the walk of its body, with the method by its name -/
theorem xm_Run.ofN {g : xm_G} {M : xm_M} {d : Nat} {av : List Value} {h : xm_H} {mc ms : Nat} {Q : xm_P} {X : xm_X} {ls : List (Option Value)} (hh : M.2.2.2.2 = []) (hy : plainName M.1.cls = true) (hn : (lg_sl av).length ≤ M.2.2.1) (hl : xm_en av ++ List.replicate (M.2.2.1 - (lg_sl av).length) none = ls)
    (body : ∀ Γ, xm_ok g Γ M d Q X → xm_named Γ M → xm_W g Γ 0 ls [] h mc ms) : xm_Run g M d av h mc ms Q X := by
  subst hl
  obtain ⟨y, b, L, r, hh0⟩ := M
  cases hh
  refine vq_ofW (cc := b) (maxL := L) (ret := r) hy rfl ?_
  intro p e s m args below meth c s₁ B hml htb hP
  obtain ⟨rfl, hW, hR⟩ := hP
  have k := body (p, e, (headSpec [xm_cw (y, b, L, r, [])] (xm_rm d mc ms)).room, s, m, av.toArray, below, meth, c, vq_MQ below (xm_Qc g Q) (xm_XC g X) av.toArray s mc ms (xm_A g))
    ⟨B.exec, B.bytes, hml, B.returns, findClass_of_methodNamed B.named, (name_of_methodNamed B.named B.method).1, B.notSynchronized, xm_tbl0 c htb, hW, hR.2, rfl, rfl, rfl⟩ B.named
  rw [lg_entry_eq]
  refine k _ _ _ 0 0 ?_ hR va_S.rf (Nat.le_of_eq (Nat.zero_add _)) (Nat.le_of_eq (Nat.zero_add _))
  rw [hml, xm_as_app]
  exact (lv_entry av hn).mono (xm_en_sub av 0)
theorem xm_lat {g : xm_G} (hG : xm_Gw g) (i : Fin 11) : ∃ (c : ClassId) (m : MethodId) (k : Class) (i0 p0 : Nat) (cell : Cell), g.2.1.methodNamed? (xm_ls i.val).1 = some m ∧ g.2.1.vm.classes[m.cls]? = some k ∧ (k.callSites.find? fun y => y.1 == m.idx && y.2.1 == (xm_ls i.val).2.1) = some (i0, p0, .constant (xm_la g i.val)) ∧ Lambda.isMade { classPath := fun _ => none } g.2.1.vm m.cls (xm_ls i.val).2.2.2 c = true ∧ g.2.1.lambdaCallable (xm_ls i.val).2.2.2 c = true ∧ g.2.1.heap[xm_la g i.val]? = some cell ∧ cell.cls = c ∧ cell.vm = .none ∧ cell.slots = #[] := by
  obtain ⟨a0, -, h1, -⟩ := hG
  have h3 : (xm_lcond i.val).before a0 g.2.1 = true := flat_of_before _ h1 _ (xm_lin i)
  obtain ⟨c, one, h4⟩ := Cond.lambdaSite_spec h3
  obtain ⟨m, k, cf, i0, p0, l, q1, q2, q3, q4, q5, q6, q7, q8, q9⟩ := State.lambdaAt?_spec h4
  rcases q9 with ⟨a, cell, rfl, rfl, -, r1, r2, r3, r4⟩ | ⟨-, -, r1⟩
  · have ea : xm_la g i.val = a := by
      unfold xm_la
      rw [h4]
    rw [ea]
    exact ⟨c, m, k, i0, p0, cell, q1, q2, q6, q7, q8, r1, r2, r3, r4⟩
  · exact absurd (xm_lcap i) r1
section XSL
variable {g : xm_G} {Γ : xm_C} {M : xm_M} {d : Nat} {Q : xm_P} {X : xm_X} {pc : Nat}
def xi_la (v : Value) (n : Nat) : xm_I := fun ls st h bc bs k => xm_stk 0 st = true ∧ k n ls (v :: st) h bc bs
theorem xs_indy (hG : xm_Gw g) (hΓ : xm_ok g Γ M d Q X) (hN : xm_named Γ M) (i : Fin 11) (hx0 : (xm_ls i.val).1 = M.1) (hpc : (xm_ls i.val).2.1 = pc) {index : Nat} (hd : decode M.2.1 pc = .ok (.invokedynamic index, 5)) : xm_Imp g Γ pc (xi_la (.ref (xm_la g i.val)) (pc + 5)) := by
  obtain ⟨p, e, R, s, m, args, below, meth, c, Qf⟩ := Γ
  obtain ⟨hx, hb, hml, hr, ho, hnm, hlk, htb, hW, hB0, hRf, hRl, hQf⟩ := hΓ
  intro ls st h bc bs k hk H lsA Hp locs cells slots hl hR hS hc hs
  obtain ⟨hk0, H⟩ := H
  have hk2 : (st.map fun v => v.category).sum ≤ 8 := (xm_stk_of hk0).2
  obtain ⟨c1, m1, k1, i0, p0, cell, q1, q2, q3, -⟩ := xm_lat hG i
  have hm : m1 = m := by
    have h1 := State.methodNamed?_setVm (s := g.2.1) hW.alike (xm_ls i.val).1
    have h2 : s.methodNamed? M.1 = some m := hN
    rw [q1, hx0] at h1
    have h3 : (g.2.1.setVm s.vm).methodNamed? M.1 = s.methodNamed? M.1 := rfl
    rw [h3, h2] at h1
    exact (Option.some.inj h1).symm
  subst hm
  obtain ⟨k', hk', he⟩ := hW.alike.2.2 _ _ q2
  intro T hT X
  obtain ⟨t, a1, b1⟩ := hk _ _ _ _ _ _ H lsA Hp locs cells slots hl hR hS hc hs T hT X
  refine ⟨t, ?_, b1⟩
  have e9 : e.platform.lambdaLinkWords = 3072 := by rw [Launch.admits.platform X.admits]
  refine X.lambdaConstant hx (g := F0 m1 pc lsA st) rfl (by rw [hl.1]) (by rw [hb]; exact hd) (k := k') (i0 := i0) (p0 := p0) (a := xm_la g i.val) hk' (by rw [he]; rw [hpc] at q3; exact q3) ?_ a1
  show 2 * 0 + (st.map fun v => v.category).sum + e.platform.lambdaLinkWords ≤ R.locals
  rw [e9]
  omega
/-- the gates' and the bits' methods, with their depths -/
def xL_ons : List (Nat × xm_M × Nat) := [(0, M_X1_lambda_gateOf_0, 4), (1, M_X1_lambda_gateOf_1, 4), (2, M_X1_lambda_gateOf_2, 4), (3, M_X1_lambda_gateOf_3, 3), (4, M_X1_lambda_gateOf_4, 3), (5, M_X1_lambda_gateOf_5, 3), (6, M_X1_lambda_gateOf_6, 4), (7, M_X1_lambda_gateOf_7, 4), (8, M_X1_lambda_gateOf_8, 4)]
def xL_ofs : List (Nat × xm_M × Nat) := [(9, M_X3_lambda_canonical_0, 3), (10, M_X3_lambda_canonical_1, 3)]
/-- the call of a gate's object is that of its method -/
def xi_lmo (g : xm_G) (n : Nat) : xm_I := fun ls st h bc bs k => match st with
  | .int y :: .int x :: v :: .ref b :: rest => xm_stk 3 st = true ∧ (v = .null ∨ ∃ r, v = .ref r) ∧ ∃ (i : Nat) (M' : xm_M) (d' : Nat), (i, M', d') ∈ xL_ons ∧ b = xm_la g i ∧ xm_Run g M' d' [v, .int x, .int y] h 0 0 (fun r h' => r = none ∧ k n ls rest h' bc bs) xm_no
  | _ => False
/-- .. of a bit's object -/
def xi_lmf (g : xm_G) (n : Nat) : xm_I := fun ls st h bc bs k => match st with
  | .int x :: v :: .ref b :: rest => xm_stk 2 st = true ∧ (v = .null ∨ ∃ r, v = .ref r) ∧ ∃ (i : Nat) (M' : xm_M) (d' : Nat), (i, M', d') ∈ xL_ofs ∧ b = xm_la g i ∧ xm_Run g M' d' [v, .int x] h 0 0 (fun r h' => ∃ z : Int32, (r = some (.int z) ∧ narrow .boolean (.int z) = .int z) ∧ k n ls (.int z :: rest) h' bc bs) xm_no
  | _ => False
/-- Boolean's two constants -/
def xm_bv (g : xm_G) (o : Option Nat) : Option Int32 := if o = xm_sto g "java/lang/Boolean" "TRUE" "Ljava/lang/Boolean;" then some 1 else if o = xm_sto g "java/lang/Boolean" "FALSE" "Ljava/lang/Boolean;" then some 0 else none
def xi_bv (g : xm_G) (n : Nat) : xm_I := fun ls st h bc bs k => match st with
  | .ref a :: r => xm_stk 0 st = true ∧ ∃ v : Int32, xm_bv g (some a) = some v ∧ k n ls (.int v :: r) h bc bs
  | _ => False
theorem xs_bv (hG : xm_Gw g) (hΓ : xm_ok g Γ M d Q X) (hdd : Nat.ble 2 d = true) {index : Nat} (hl0 : Cond.methodLink M.1.cls index ⟨"java/lang/Boolean", "booleanValue", "()Z"⟩ ∈ lw_all) (hd : decode M.2.1 pc = .ok (.invokevirtual index, 3)) : xm_Imp g Γ pc (xi_bv g (pc + 3)) := sorry
variable {n : Nat} {ls : List (Option Value)} {st : List Value} {h : xm_H} {bc bs : Nat} {o : Option Nat} {a : Nat}
theorem xw_la {v : Value} (hi : xm_Imp g Γ pc (xi_la v n)) (hs : xm_stk 0 st = true) (k : xm_W g Γ n ls (v :: st) h bc bs) : xm_W g Γ pc ls st h bc bs := xm_use hi ⟨hs, k⟩
theorem xw_bv {v : Int32} (hi : xm_Imp g Γ pc (xi_bv g n)) (ho : o = some a) (hs : xm_stk 0 (va_rf o :: st) = true) (hv : xm_bv g (some a) = some v) (k : xm_W g Γ n ls (.int v :: st) h bc bs) : xm_W g Γ pc ls (va_rf o :: st) h bc bs := by
  subst ho
  exact xm_use hi ⟨hs, v, hv, k⟩
theorem xw_lamu3 {o1 : Option Nat} {x y : Int32} {h' : xm_H} (hi : xm_Imp g Γ pc (xi_lmo g n)) (hs : xm_stk 3 (.int y :: .int x :: va_rf o1 :: va_rf o :: st) = true) (ho : o = some a) (hr : ∃ (i : Nat) (M' : xm_M) (d' : Nat), (i, M', d') ∈ xL_ons ∧ a = xm_la g i ∧ ∀ (Q : xm_P) (X : xm_X), Q none h' → xm_Run g M' d' [va_rf o1, .int x, .int y] h 0 0 Q X) (k : xm_W g Γ n ls st h' bc bs) : xm_W g Γ pc ls (.int y :: .int x :: va_rf o1 :: va_rf o :: st) h bc bs := by
  subst ho
  obtain ⟨i, M', d', q1, q2, q3⟩ := hr
  refine xm_use hi ⟨hs, ?_, i, M', d', q1, q2, q3 _ _ ⟨rfl, k⟩⟩
  cases o1
  · exact Or.inl rfl
  · exact Or.inr ⟨_, rfl⟩
theorem xw_lamv2 {o1 : Option Nat} {x r : Int32} {h' : xm_H} (hi : xm_Imp g Γ pc (xi_lmf g n)) (hs : xm_stk 2 (.int x :: va_rf o1 :: va_rf o :: st) = true) (ho : o = some a) (hr : narrow .boolean (.int r) = .int r ∧ ∃ (i : Nat) (M' : xm_M) (d' : Nat), (i, M', d') ∈ xL_ofs ∧ a = xm_la g i ∧ ∀ (Q : xm_P) (X : xm_X), Q (some (.int r)) h' → xm_Run g M' d' [va_rf o1, .int x] h 0 0 Q X) (k : xm_W g Γ n ls (.int r :: st) h' bc bs) : xm_W g Γ pc ls (.int x :: va_rf o1 :: va_rf o :: st) h bc bs := by
  subst ho
  obtain ⟨hn, i, M', d', q1, q2, q3⟩ := hr
  refine xm_use hi ⟨hs, ?_, i, M', d', q1, q2, q3 _ _ ⟨r, ⟨rfl, hn⟩, k⟩⟩
  cases o1
  · exact Or.inl rfl
  · exact Or.inr ⟨_, rfl⟩
end XSL
