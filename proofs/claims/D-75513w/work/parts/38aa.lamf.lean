/-! THE CLASSES OF LAMBDAS: what their one method is -/
set_option maxRecDepth 100000
def xl_own (i : Nat) : String := (xm_ls i).1.cls
def xl_D (i : Nat) : ClassFile := ((xm_ls i).2.2.2.file (xl_own i)).getD { minorVersion := 0, majorVersion := 0, constantPool := #[], accessFlags := 0, thisClass := 0, superClass := 0, interfaces := #[], fields := #[], methods := #[], attributes := #[] }
def xl_fw (i : Nat) : Method := ((layoutMethods (xl_D i)).bind (·[1]?)).getD default
def xl_con : ByteArray := ⟨#[0x2b, 0x1c, 0x1d, 0xb8, 0x00, 0x11, 0xb1]⟩
def xl_cof : ByteArray := ⟨#[0x2b, 0x1c, 0xb8, 0x00, 0x11, 0xac]⟩
def xl_cd (i : Nat) : ByteArray := if i < 9 then xl_con else xl_cof
def xl_ml (i : Nat) : Nat := if i < 9 then 4 else 3
theorem xl_f1 : ∀ i : Fin 11, ((xm_ls i.val).2.2.2.file (xl_own i.val)).isSome = true := by decide +kernel
theorem xl_f2 : ∀ i : Fin 11, ((layoutMethods (xl_D i.val)).bind (·[1]?)).isSome = true := by decide +kernel
theorem xl_f3 : ∀ i : Fin 11, ((xl_fw i.val).code.map fun c => (c.code.data, c.maxLocals)) = some ((xl_cd i.val).data, xl_ml i.val) := by decide +kernel
theorem xl_f4 : ∀ i : Fin 11, (xl_fw i.val).accessFlags = 0x0001 ∧ (xl_fw i.val).sig.returnType = (xm_ls i.val).2.2.2.sam.returnType := by decide +kernel
theorem xl_f5 : ∀ i : Fin 11, (xl_D i.val).constantPool[17]? = some (.methodref 14 16) ∧ (xl_D i.val).constantPool.className? 14 = some (xm_ls i.val).2.2.2.implClass ∧ (xl_D i.val).constantPool.nameAndType? 16 = some ((xm_ls i.val).2.2.2.implName, (xm_ls i.val).2.2.2.implDesc.toString) := by decide +kernel
theorem xl_f6 : ∀ i : Fin 11, (xl_D i.val).constantPool[14]? = some (.class_ 13) ∧ (xl_D i.val).constantPool.string? 13 = some (xm_ls i.val).2.2.2.implClass ∧ 14 ≠ (xl_D i.val).thisClass := by decide +kernel
theorem xl_file (i : Fin 11) : (xm_ls i.val).2.2.2.file (xl_own i.val) = some (xl_D i.val) := by
  obtain ⟨x, hx⟩ := Option.isSome_iff_exists.mp (xl_f1 i)
  simp [xl_D, hx]
theorem xl_second (i : Fin 11) : ∀ ms, layoutMethods (xl_D i.val) = some ms → ms[1]? = some (xl_fw i.val) := by
  intro ms hms
  obtain ⟨x, hx⟩ := Option.isSome_iff_exists.mp (xl_f2 i)
  have hf : xl_fw i.val = x := by simp [xl_fw, hx]
  rw [hms] at hx
  rw [hf]
  exact hx
theorem xl_made {e : Setting} {vm : Vm} {d c : ClassId} {dk : Class} (i : Fin 11) (hd : vm.classes[d]? = some dk) (hname : dk.name = xl_own i.val) (h : Lambda.isMade e vm d (xm_ls i.val).2.2.2 c = true) :
    ∃ (k tk : Class) (file : ClassFile) (methk : Method) (ck : Code) (toy : ClassId) (t : MethodId),
      vm.classes[c]? = some k ∧ k.name = xl_own i.val ++ "$$Lambda" ∧ k.cf = some file ∧ file.constantPool = (xl_D i.val).constantPool ∧
      vm.method? ⟨c, 1⟩ = some methk ∧ methk.code = some ck ∧ ck.code = xl_cd i.val ∧ ck.maxLocals = xl_ml i.val ∧ methk.locks = false ∧ methk.accessFlags = 0x0001 ∧ methk.sig.returnType = (xm_ls i.val).2.2.2.sam.returnType ∧
      vm.findClass (xm_ls i.val).2.2.2.implClass = some toy ∧ vm.classes[toy]? = some tk ∧ ((methodIn toy (xm_ls i.val).2.2.2.implName (xm_ls i.val).2.2.2.implDesc.toString tk.isInterface none).ask e vm).1 = .ok t ∧
      vm.methodReady c 17 t ∧ vm.classReady c 14 toy := by
  obtain ⟨dk', k, ok, tk, file, cf, object, iface, toy, lay, methods, target, found, hd', hk, hfile, hcf, -, -, -, -, hms, ht, htk, hg, -, hrec, -, -, -, -, hpool, hmeth, -, -, hres, -⟩ := Lambda.isMade_spec h
  cases hd.symm.trans hd'
  rw [hname, xl_file] at hcf
  cases hcf
  obtain ⟨b, hb, hsame⟩ := hmeth 1 (xl_fw i.val) (xl_second i methods hms)
  simp only [Lambda.sameMethod, Bool.and_eq_true, decide_eq_true_eq] at hsame
  obtain ⟨⟨hn, -, hsig, hfl⟩, hcode⟩ := hsame
  have fc := xl_f3 i
  have ff := xl_f4 i
  cases hfc : (xl_fw i.val).code with
  | none => rw [hfc] at fc; cases fc
  | some x =>
    cases hbc : b.code with
    | none => simp [hfc, hbc] at hcode
    | some y =>
      simp only [hfc, hbc, Bool.and_eq_true, decide_eq_true_eq] at hcode
      simp only [hfc, Option.map_some, Option.some.injEq, Prod.mk.injEq] at fc
      obtain ⟨h14, hs14, hne⟩ := xl_f6 i
      obtain ⟨e17, e17b, e17c⟩ := xl_f5 i
      refine ⟨k, tk, file, b, y, toy, target, hk, by rw [hrec.1, hname], hfile, hpool.2.1, by simp [Vm.method?, hk, hb], hbc, ?_, by rw [← hcode.1.1.1.1.2.1]; exact fc.2, ?_, by rw [← hfl]; exact ff.1, by rw [← hsig]; exact ff.2, ht, htk, hg,
        ⟨k, hk, hres 17 _ (Lambda.resolvedOf_method e17 e17b ht htk e17c hg)⟩, ⟨k, hk, hres 14 _ (Lambda.resolvedOf_class h14 hne hs14 ht)⟩⟩
      · rw [← hcode.1.1.1.1.2.2]
        exact ByteArray.ext fc.1
      · simp [Method.locks, Method.isSynchronized, ← hfl, ff.1, hasFlag, Acc.synchronized]
