/-! THE CALL OF A LAMBDA: two laws (printed by gen/mklamc.py) -/
set_option maxRecDepth 100000
theorem xl_pn : ∀ i : Fin 11, plainName (xl_own i.val ++ "$$Lambda") = true := by decide +kernel
theorem xl_xon : ∀ i : Fin 11, i.val < 9 → xl_x i.val = ⟨"StringTableau$Gate", "on", "(LStringTableau$Row;II)V"⟩ := by decide +kernel
theorem xl_kon : ∀ i : Fin 11, i.val < 9 → xl_cd i.val = xl_con ∧ xl_ml i.val = 4 ∧ (xm_ls i.val).2.2.2.sam.returnType = none := by
  intro i hi
  refine ⟨?_, ?_, ?_⟩
  · unfold xl_cd; rw [if_pos hi]
  · unfold xl_ml; rw [if_pos hi]
  · revert i; decide +kernel
theorem xl_on_mem {j : Nat} {M' : xm_M} {d' : Nat} (h : (j, M', d') ∈ xL_ons) : ∃ i : Fin 11, j = i.val ∧ (i.val < 9) ∧ M'.1 = xl_y i.val ∧ xm_mk M' 3 ∧ M'.2.2.2.2 = [] ∧ d' ≤ 4 := by
  simp only [xL_ons, List.mem_cons, Prod.mk.injEq, List.not_mem_nil, or_false] at h
  rcases h with ⟨rfl, rfl, rfl⟩ | ⟨rfl, rfl, rfl⟩ | ⟨rfl, rfl, rfl⟩ | ⟨rfl, rfl, rfl⟩ | ⟨rfl, rfl, rfl⟩ | ⟨rfl, rfl, rfl⟩ | ⟨rfl, rfl, rfl⟩ | ⟨rfl, rfl, rfl⟩ | ⟨rfl, rfl, rfl⟩
  · exact ⟨⟨0, by decide⟩, rfl, by decide, by decide +kernel, k_X1_lambda_gateOf_0, rfl, by decide⟩
  · exact ⟨⟨1, by decide⟩, rfl, by decide, by decide +kernel, k_X1_lambda_gateOf_1, rfl, by decide⟩
  · exact ⟨⟨2, by decide⟩, rfl, by decide, by decide +kernel, k_X1_lambda_gateOf_2, rfl, by decide⟩
  · exact ⟨⟨3, by decide⟩, rfl, by decide, by decide +kernel, k_X1_lambda_gateOf_3, rfl, by decide⟩
  · exact ⟨⟨4, by decide⟩, rfl, by decide, by decide +kernel, k_X1_lambda_gateOf_4, rfl, by decide⟩
  · exact ⟨⟨5, by decide⟩, rfl, by decide, by decide +kernel, k_X1_lambda_gateOf_5, rfl, by decide⟩
  · exact ⟨⟨6, by decide⟩, rfl, by decide, by decide +kernel, k_X1_lambda_gateOf_6, rfl, by decide⟩
  · exact ⟨⟨7, by decide⟩, rfl, by decide, by decide +kernel, k_X1_lambda_gateOf_7, rfl, by decide⟩
  · exact ⟨⟨8, by decide⟩, rfl, by decide, by decide +kernel, k_X1_lambda_gateOf_8, rfl, by decide⟩
set_option maxHeartbeats 4000000 in
theorem xs_lamon {g : xm_G} {Γ : xm_C} {M : xm_M} {d : Nat} {Q : xm_P} {X : xm_X} {pc : Nat} (hG : xm_Gw g) (hΓ : xm_ok g Γ M d Q X) (hdd : Nat.ble 6 d = true) {index : Nat} (hl0 : Cond.methodLink M.1.cls index ⟨"StringTableau$Gate", "on", "(LStringTableau$Row;II)V"⟩ ∈ lw_all) (hd : decode M.2.1 pc = .ok (.invokeinterface index 4, 5)) : xm_Imp g Γ pc (xi_lmo g (pc + 5)) := by
  obtain ⟨p, e, R, s, m, args, below, meth, c, Qf⟩ := Γ
  obtain ⟨hx, hb, hml, hr, ho, hnm, hlk, htb, hW, hB0, hRf, hRl, hQf⟩ := hΓ
  intro ls st h bc bs k hk H lsA Hp locs cells slots hl hR hS hc hs
  have hdd := Nat.le_of_ble_eq_true hdd
  unfold xi_lmo at H
  split at H
  · next y x v b rest =>
    obtain ⟨hk0, hv, j, M', d', hmem, hb0, HR⟩ := H
    have hk2 := (xm_stk_of hk0).2
    obtain ⟨i, rfl, hi9, hMy, hmk9, hhh, hd4⟩ := xl_on_mem hmem
    subst hb0
    have hk3 : ((Value.ref (xm_la g i.val) :: rest).map fun v => v.category).sum ≤ 8 := hk2
    simp only [List.map_cons, List.sum_cons] at hk3
    obtain ⟨y', b', L', r', hh'⟩ := M'
    cases hhh
    have hMy : y' = xl_y i.val := hMy
    intro T hT X
    have hA := hW.alike
    have hts := xm_hts hG hW args
    obtain ⟨cK, mD, kD, i0, p0, cell, q1, q2, q3, hmade0, hcan0, hcell0, hcls, hvmc, hslots⟩ := xm_lat hG i
    subst hcls
    have hmade : Lambda.isMade { classPath := fun _ => none } s.vm mD.cls (xm_ls i.val).2.2.2 cell.cls = true := Lambda.isMade_warmer hW hmade0
    have hcan : s.lambdaCallable (xm_ls i.val).2.2.2 cell.cls = true := by
      simp only [State.lambdaCallable, hA.findClass, hA.assignable, hA.superclasses, hA.declaredIn] at hcan0 ⊢
      exact hcan0
    obtain ⟨kD0, hkD0, hnameD0⟩ := className_of_methodNamed q1
    cases q2.symm.trans hkD0
    obtain ⟨kD', hkD', heD⟩ := hA.2.2 _ _ q2
    have hnameD : kD'.name = xl_own i.val := by rw [heD]; exact hnameD0
    obtain ⟨r0, r, hn0, hrm0, hstR, hsigR, cL, kL, hcL, hkL, hiL, hfoundL⟩ : ∃ (r0 : MethodId) (r : Method), g.2.1.methodNamed? (xl_x i.val) = some r0 ∧ g.2.1.vm.method? r0 = some r ∧ r.isStatic = false ∧ parseMethodDescriptor (xl_x i.val).desc = some r.sig ∧ ∃ (cL : ClassId) (kL : Class), g.2.1.vm.findClass (xl_x i.val).cls = some cL ∧ g.2.1.vm.classes[cL]? = some kL ∧ kL.isInterface = true ∧ g.2.1.methodFound? (xl_x i.val).cls (xl_x i.val).name (xl_x i.val).desc = some r0 := by
      obtain ⟨a0, h0, -⟩ := hG
      obtain ⟨r0, r, hn0, hrm0, hstR, hsigR⟩ := Cond.declares_spec (h0 _ (xl_g2 i).1)
      obtain ⟨cL, kL, r1, hcL, hkL, hiL, hfoundL, hn1⟩ := Cond.interfaceMethod_spec (h0 _ (xl_g2 i).2)
      cases hn0.symm.trans hn1
      exact ⟨r0, r, hn0, hrm0, hstR, hsigR, cL, kL, hcL, hkL, hiL, hfoundL⟩
    have hr0cls : r0.cls = cL := Option.some.inj ((findClass_of_methodNamed hn0).symm.trans hcL)
    obtain ⟨hnameR, hdescR⟩ := name_of_methodNamed hn0 hrm0
    have hn : s.methodNamed? (xl_x i.val) = some r0 := by
      have h1 := State.methodNamed?_setVm (s := g.2.1) hA (xl_x i.val)
      rw [hn0] at h1
      exact h1
    have hrm : s.vm.method? r0 = some r := by rw [hA.method?]; exact hrm0
    have hcLs : s.vm.findClass (xl_x i.val).cls = some cL := by rw [hA.findClass]; exact hcL
    obtain ⟨kL', hkL', heL⟩ := hA.2.2 _ _ hkL
    have hiL' : kL'.isInterface = true := by rw [heL]; exact hiL
    have hfoundS : s.methodFound? (xl_x i.val).cls (xl_x i.val).name (xl_x i.val).desc = some r0 := by
      have h1 := State.methodFound?_setVm (s := g.2.1) hA (xl_x i.val).cls (xl_x i.val).name (xl_x i.val).desc
      rw [hfoundL] at h1
      exact h1
    obtain ⟨-, -, -, -, -, -, -, iface', -, -, -, -, found, -, -, -, -, -, hi', -, -, -, -, -, -, hfound', -, -, -, -, -, -, -, -, -, -, hsel⟩ := Lambda.isMade_spec hmade
    cases hcLs.symm.trans hi'
    have hfr : found = r0 := by
      have h1 : s.methodFound? (xm_ls i.val).2.2.2.iface (xm_ls i.val).2.2.2.name (xm_ls i.val).2.2.2.sam.toString = some r0 := hfoundS
      have hcL' : s.vm.findClass (xm_ls i.val).2.2.2.iface = some cL := hcLs
      simp only [State.methodFound?, hcL', hkL', hiL', Option.bind_eq_bind, Option.bind_some] at h1
      rw [hfound'] at h1
      exact Option.some.inj h1
    subst hfr
    obtain ⟨i2, hi2, hasg, hway⟩ := State.lambdaCallable_spec hcan
    cases hcLs.symm.trans hi2
    have hxx := xl_xon i hi9
    obtain ⟨hcc1, hcc2, hcc3⟩ := xl_kon i hi9
    have hsigI : r.sig = ⟨[.object "StringTableau$Row", .int, .int], none⟩ := by
      rw [hxx] at hsigR
      exact (Option.some.inj ((by decide +kernel : parseMethodDescriptor "(LStringTableau$Row;II)V" = some ⟨[.object "StringTableau$Row", .int, .int], none⟩).symm.trans hsigR)).symm
    obtain ⟨kK, tk, file, methk, ckK, toy, t, hkK, hkn, hfile, hpool, hmk, hckK, hbytes, hmlK, hlkK, hfl, hretk, htoy, htk, hlook, hready, hclsR⟩ := xl_made i hkD' hnameD hmade
    have hcellT : T.heap[xm_la g i.val]? = some cell := by
      rw [hT]
      exact (hR.2.2 _ (Array.getElem?_eq_some_iff.mp hcell0).1).trans hcell0
    obtain ⟨vm₁, X₁, hstep₁⟩ := X.invokeinterface hx ho (x := xl_x i.val) (by rw [hxx]; exact hts _ hl0) hn hrm hstR (by rw [hr0cls]; exact hkL') hiL' (by rw [hxx]; exact ⟨by decide, by decide⟩) (a := xm_la g i.val) (cell := cell) (kcell := kK) hcellT (fun z h => by rw [hvmc] at h; cases h) hkK (by rw [hr0cls]; exact hasg)
      (m' := ⟨cell.cls, 1⟩) (meth' := methk) (by rw [Launch.admits_selectMethod X.admits]; exact hsel) hmk (by rw [hnameR, hdescR]; exact hway) (by rw [hfl]; decide) (by simp [Method.isAbstract, hfl, hasFlag, Acc.abstract])
      (g := F0 m pc lsA (.int y :: .int x :: v :: .ref (xm_la g i.val) :: rest)) rfl (argsL := [v, .int x, .int y]) (rest := rest) (by rw [hsigI]; rfl) rfl (by rw [hb]; exact hd)
    have hW₁ : s.WarmedH vm₁ := X₁.warmed
    obtain ⟨kD₁, hkD₁, heD₁⟩ := hW₁.alike.2.2 _ _ hkD'
    have hnameD₁ : kD₁.name = xl_own i.val := by rw [heD₁]; exact hnameD
    obtain ⟨kK₁, tk₁, file₁, methk₁, ckK₁, toy₁, t₁, hkK₁, hkn₁, hfile₁, hpool₁, hmk₁, hckK₁, hbytes₁, hml₁, hlk₁, hfl₁, hretk₁, htoy₁, htk₁, hlook₁, hready₁, hclsR₁⟩ := xl_made i hkD₁ hnameD₁ (Lambda.isMade_warmer hW₁ hmade)
    rw [hcc1] at hbytes₁
    rw [hcc2] at hml₁
    rw [hcc3] at hretk₁
    have hcodeT := hts _ hmk9.1
    obtain ⟨mT, hmT⟩ := Cond.code_named hcodeT
    obtain ⟨methT, cT, hmethT, hcT, hbytesT, hlocT, hretT, hlocksT, -, hsigT⟩ := Cond.code_spec hmT hcodeT
    have hstaticT : methT.isStatic = true := Cond.static_spec hmT hmethT (by rw [hMy]; exact hts _ (xl_g1 i).1)
    obtain ⟨kT, hkT, hnameT⟩ := className_of_methodNamed hmT
    have hfT : s.vm.findClass y'.cls = some mT.cls := findClass_of_methodNamed hmT
    have hinitK : kT.init = .initialized := Cond.initialized_spec hfT hkT (hts _ hmk9.2.1)
    have hfT₁ : vm₁.findClass (xm_ls i.val).2.2.2.implClass = some mT.cls := by
      rw [hW₁.alike.findClass]
      rw [hMy] at hfT
      exact hfT
    cases htoy₁.symm.trans hfT₁
    have ht₁ : t₁ = mT := by
      have h1 : (s.setVm vm₁).methodFound? y'.cls y'.name y'.desc = some mT := by rw [State.methodFound?_setVm hW₁.alike]; exact State.methodFound?_of_named hmT hmk9.2.2.2.1
      rw [hMy] at h1
      have h2 : (s.setVm vm₁).methodFound? (xm_ls i.val).2.2.2.implClass (xm_ls i.val).2.2.2.implName (xm_ls i.val).2.2.2.implDesc.toString = some mT := h1
      simp only [State.methodFound?, State.vm_setVm, hfT₁, htk₁, Option.bind_eq_bind, Option.bind_some] at h2
      rw [hlook₁] at h2
      exact Option.some.inj h2
    subst ht₁
    have hmethT₁ : vm₁.method? t₁ = some methT := by rw [hW₁.alike.method?]; exact hmethT
    obtain ⟨kT₁, hkT₁, heT₁⟩ := hW₁.alike.2.2 _ _ hkT
    cases htk₁.symm.trans hkT₁
    have hnm1 : tk₁.name ≠ "java/lang/invoke/MethodHandle" ∧ tk₁.name ≠ "java/lang/invoke/VarHandle" := by
      have : tk₁.name = y'.cls := by rw [heT₁]; exact hnameT
      rw [this]
      exact hmk9.2.2.2.1
    have hsp : ∀ y : Method, signaturePolymorphic tk₁ y = false := fun y => by simp [signaturePolymorphic, hnm1.1, hnm1.2]
    obtain ⟨e17, e17b, e17c⟩ := xl_f5 i
    obtain ⟨bb, hmem9⟩ := memberRef_ask' (e := e) (vm := vm₁) (d := cell.cls) (index := 17) hkK₁ hfile₁ (Or.inl (by rw [hpool₁]; exact e17)) (by rw [hpool₁]; exact e17c)
    have hpk : (T.setVm vm₁).plainMethod ⟨cell.cls, 1⟩ := State.plainMethod.of_name (fun k' hk' => by cases hkK₁.symm.trans hk'; rw [hkn₁]; exact xl_pn i)
    have hlenT : ([v, .int x, .int y] : List Value).length = methT.sig.parameters.length := xm_par (M := (y', b', L', r', [])) hmk9.2.2.2.2 _ hsigT
    have hszF : (F0 m pc lsA rest).locals.size = c.maxLocals := hl.1
    have hdgF : decode c.code (F0 m pc lsA rest).pc = .ok (.invokeinterface index 4, 5) := by
      rw [hb]
      exact hd
    have hWU : g.2.1.WarmedH vm₁ := hW.trans hW₁
    obtain ⟨Y₀, hin⟩ := X₁.into (g := F0 m pc lsA rest) rfl hszF hdgF #[.ref (xm_la g i.val), v, .int x, .int y] (R' := xm_rm (d - 1) 0 0) hmk₁ hckK₁ hlk₁ hpk (by show d - 1 + 1 ≤ R.frames; rw [hRf]; omega)
      (by rw [hml₁]; show 2 * 0 + (rest.map fun v => v.category).sum + (4 + 11) + (4096 + 64 * (d - 1)) ≤ R.locals; omega) (by show cells + 0 ≤ R.cells; omega) (by show slots + 0 ≤ R.slots; omega)
    generalize hU : ((T.setVm vm₁).setTop (F0 m pc lsA rest)).pushFrame (.java (entryFrame ⟨cell.cls, 1⟩ #[.ref (xm_la g i.val), v, .int x, .int y] ckK₁.maxLocals)) = U at Y₀ hin
    have hUvm : U.vm = vm₁ := by rw [← hU]; rfl
    have hUh : U.heap = Hp := by rw [← hU, ← hT]; rfl
    have hL45 : L' ≤ 45 := hmk9.2.2.1
    have hws : ∀ (w : Cond), w ∈ lw_all → ∀ (a' : Array Value) (U2 : State), ((T.setVm vm₁).calling (F0 m pc lsA rest) ⟨cell.cls, 1⟩ #[.ref (xm_la g i.val), v, .int x, .int y]).WarmedH U2.vm → w.before a' U2 = true := by
      intro w hw a' U2 hU2
      have h1 : g.2.1.WarmedH ((T.setVm vm₁).calling (F0 m pc lsA rest) ⟨cell.cls, 1⟩ #[.ref (xm_la g i.val), v, .int x, .int y]).vm := hWU
      exact xm_hts hG (h1.trans hU2) a' w hw
    have hK := vq_back (l := g.1) (R := xm_rm (d - 1) 0 0) (p := p) (e := e) (below := .java (F0 m pc lsA rest) :: below) (s := (T.setVm vm₁).calling (F0 m pc lsA rest) ⟨cell.cls, 1⟩ #[.ref (xm_la g i.val), v, .int x, .int y]) (sargs := #[.ref (xm_la g i.val), v, .int x, .int y]) (y := y') (len := 3) (W9 := 8) (bytes := b') (maxL := L') (ret := r') HR (xm_blind g _ h) rfl rfl
      (by show d' + 1 ≤ d - 1; omega) (by show 8 + (L' + 11) + (4096 + 64 * d') ≤ 4096 + 64 * (d - 1); omega) (fun w hw a' U2 hU2 => by rw [List.mem_singleton.mp hw]; exact hws _ hmk9.1 a' U2 hU2) (List.mem_singleton.mpr rfl) (fun a' U2 hU2 => hws _ hmk9.2.1 a' U2 hU2)
    have hnU : U.methodNamed? y' = some t₁ := by
      have h1 := State.methodNamed?_setVm (s := s) hW₁.alike y'
      rw [hmT] at h1
      have h2 : (s.setVm vm₁).vm = U.vm := by rw [hUvm]; rfl
      simp only [State.methodNamed?, h2] at h1 ⊢
      exact h1
    rcases hK ⟨cell.cls, 1⟩ methk₁ ckK₁ ⟨U, [], 0, 0⟩ { method := ⟨cell.cls, 1⟩, pc := 3, locals := #[.val (.ref (xm_la g i.val)), .val v, .val (.int x), .val (.int y)], stack := [], locked := none } (.invokestatic 17) t₁ [v, .int x, .int y].toArray Y₀ rfl (by rw [hml₁]; rfl) (by rw [hbytes₁]; exact xl_d0.2.2.2.1) (by show 2 * 0 + 0 ≤ 8; omega) hnU
      ⟨Nat.le_refl _, Nat.le_refl _, rfl, by rw [hUvm]; exact hWU, by rw [hUh]; exact hR⟩ with ⟨w, B, Y', hpost, hsteps⟩ | ⟨q, B, Y', hpost, hsteps⟩
    · obtain ⟨g', mk', t', LL, e1, e2, hqc, e4, e5, e6, e7⟩ := hpost
      obtain ⟨rr, h', hrr, ⟨rfl, hkk⟩, hR', hz⟩ := hqc
      cases hrr
      have hvF := hz
      obtain ⟨fs, hleave, -, hended, hWe, hsame⟩ := Y'.leave (v := none) (fun _ => rfl) hlk₁
      obtain ⟨T', X', hW', -, ht⟩ := X₁.outOf (g := F0 m pc lsA rest) rfl hdgF hended hWe hsame
      have hTh : T'.heap = t'.heap := by
        have h1 := congrArg State.heap ht
        have h2 : (B.U.setFrames fs).heap = B.U.heap := rfl
        rw [h2, e1] at h1
        exact h1.symm
      have e4' : B.locs = LL := by rw [e4]; rfl
      have e6' : B.cells = 0 := e6
      have e7' : B.slots = 0 := e7
      rw [e4', e6', e7'] at X'
      have hS' : va_S (xm_A g) s.heap T'.heap (locs ++ LL) := by
        obtain ⟨hz1, hz2⟩ := hvF
        have h0 : (U.calling g' mk' [v, .int x, .int y].toArray).heap = Hp := hUh
        rw [h0] at hz1 hz2
        refine ⟨Nat.le_trans hS.1 (by rw [hTh]; exact hz1), fun q q1 q2 => by rw [hTh, hz2 q (Nat.lt_of_lt_of_le q1 hS.1) q2]; exact hS.2.1 q q1 q2, fun q hq => ?_⟩
        rcases List.mem_append.mp hq with h | h
        · exact hS.2.2 q h
        · exact e5 q h
      obtain ⟨t2, a1, b1⟩ := hk _ _ _ _ _ _ hkk lsA T'.heap (locs ++ LL) (cells + 0) (slots + 0) hl (by rw [hTh]; exact hR') hS' (by omega) (by omega) T' rfl X'
      refine ⟨t2, hstep₁ _ fun acts => ?_, b1⟩
      have hin2 := hin acts
      refine Steps.trans (s₂ := T'.setTop { F0 m pc lsA rest with pc := pc + 5, stack := (none : Option Value).toList ++ rest }) ?_ a1
      rw [hin2]
      have ht2 : B.U.setFrames fs = T'.setTop { F0 m pc lsA rest with pc := pc + 5, stack := (none : Option Value).toList ++ rest } := ht
      rw [← ht2]
      refine Steps.weaken (mid := [.java (F0 m pc lsA rest)]) ?_
      have hloc : entryFrame ⟨cell.cls, 1⟩ #[.ref (xm_la g i.val), v, .int x, .int y] ckK₁.maxLocals = { method := ⟨cell.cls, 1⟩, pc := 0, locals := #[.val (.ref (xm_la g i.val)), .val v, .val (.int x), .val (.int y)], stack := [], locked := none } := by
        rw [hml₁]
        rcases hv with rfl | ⟨r9, rfl⟩ <;> rfl
      rw [hloc]
      have hs9 : U.topJava?.isSome := Y₀.here.top
      have hvr : v.isRef = true := by
        rcases hv with rfl | ⟨r, rfl⟩ <;> rfl
      jvm_step Y₀.here [hx, hbytes₁, xl_d0.1, hvr]
      jvm_step Y₀.here [hx, hbytes₁, xl_d0.2.1]
      jvm_step Y₀.here [hx, hbytes₁, xl_d0.2.2.1]
      jvm_step Y₀.here [hx, hbytes₁, xl_d0.2.2.2.1, invokestatic.wp_ready (e := e) (s := U) (m := t₁) (k := tk₁) (meth := methT) (args := [v, .int x, .int y]) (rest := [])
        (f := { method := ⟨cell.cls, 1⟩, pc := 3, locals := #[.val (.ref (xm_la g i.val)), .val v, .val (.int x), .val (.int y)], stack := [.int y, .int x, v], locked := none }) hs9 ⟨14, _, _, bb, t₁.cls, tk₁, by rw [hUvm]; exact hmem9, by rw [hUvm]; exact hclsR₁, by rw [hUvm]; exact htk₁, by simp [hsp]⟩ (by rw [hUvm]; exact hready₁) (by rw [hUvm]; exact htk₁) (by rw [hUvm]; exact hmethT₁) (hsp _) hstaticT (by rw [heT₁]; exact hinitK) hlenT rfl]
      intro acts'
      rw [doInvoke_state]
      refine hsteps.trans ?_
      jvm_step Y'.here [Y'.here.top, hx, hbytes₁, xl_d0.2.2.2.2, Y'.method', hretk₁]
      intro acts''
      rw [hleave { method := ⟨cell.cls, 1⟩, pc := 6, locals := #[.val (.ref (xm_la g i.val)), .val v, .val (.int x), .val (.int y)], stack := [], locked := none } acts'' rfl rfl rfl]
      exact Steps.refl _
    · obtain ⟨g', mk', t', LL, E, ce, e1, e2, ⟨h', hX, -⟩, -⟩ := hpost
      exact hX.elim
  · exact H.elim
theorem xl_xof : ∀ i : Fin 11, ¬ i.val < 9 → xl_x i.val = ⟨"StringTableau$Bit", "of", "(LStringTableau$Row;I)Z"⟩ := by decide +kernel
theorem xl_kof : ∀ i : Fin 11, ¬ i.val < 9 → xl_cd i.val = xl_cof ∧ xl_ml i.val = 3 ∧ (xm_ls i.val).2.2.2.sam.returnType = some .boolean := by
  intro i hi
  refine ⟨?_, ?_, ?_⟩
  · unfold xl_cd; rw [if_neg hi]
  · unfold xl_ml; rw [if_neg hi]
  · revert i; decide +kernel
theorem xl_of_mem {j : Nat} {M' : xm_M} {d' : Nat} (h : (j, M', d') ∈ xL_ofs) : ∃ i : Fin 11, j = i.val ∧ (¬ i.val < 9) ∧ M'.1 = xl_y i.val ∧ xm_mk M' 2 ∧ M'.2.2.2.2 = [] ∧ d' ≤ 3 := by
  simp only [xL_ofs, List.mem_cons, Prod.mk.injEq, List.not_mem_nil, or_false] at h
  rcases h with ⟨rfl, rfl, rfl⟩ | ⟨rfl, rfl, rfl⟩
  · exact ⟨⟨9, by decide⟩, rfl, by decide, by decide +kernel, k_X3_lambda_canonical_0, rfl, by decide⟩
  · exact ⟨⟨10, by decide⟩, rfl, by decide, by decide +kernel, k_X3_lambda_canonical_1, rfl, by decide⟩
set_option maxHeartbeats 4000000 in
theorem xs_lamof {g : xm_G} {Γ : xm_C} {M : xm_M} {d : Nat} {Q : xm_P} {X : xm_X} {pc : Nat} (hG : xm_Gw g) (hΓ : xm_ok g Γ M d Q X) (hdd : Nat.ble 5 d = true) {index : Nat} (hl0 : Cond.methodLink M.1.cls index ⟨"StringTableau$Bit", "of", "(LStringTableau$Row;I)Z"⟩ ∈ lw_all) (hd : decode M.2.1 pc = .ok (.invokeinterface index 3, 5)) : xm_Imp g Γ pc (xi_lmf g (pc + 5)) := by
  obtain ⟨p, e, R, s, m, args, below, meth, c, Qf⟩ := Γ
  obtain ⟨hx, hb, hml, hr, ho, hnm, hlk, htb, hW, hB0, hRf, hRl, hQf⟩ := hΓ
  intro ls st h bc bs k hk H lsA Hp locs cells slots hl hR hS hc hs
  have hdd := Nat.le_of_ble_eq_true hdd
  unfold xi_lmf at H
  split at H
  · next x v b rest =>
    obtain ⟨hk0, hv, j, M', d', hmem, hb0, HR⟩ := H
    have hk2 := (xm_stk_of hk0).2
    obtain ⟨i, rfl, hi9, hMy, hmk9, hhh, hd4⟩ := xl_of_mem hmem
    subst hb0
    have hk3 : ((Value.ref (xm_la g i.val) :: rest).map fun v => v.category).sum ≤ 8 := hk2
    simp only [List.map_cons, List.sum_cons] at hk3
    obtain ⟨y', b', L', r', hh'⟩ := M'
    cases hhh
    have hMy : y' = xl_y i.val := hMy
    intro T hT X
    have hA := hW.alike
    have hts := xm_hts hG hW args
    obtain ⟨cK, mD, kD, i0, p0, cell, q1, q2, q3, hmade0, hcan0, hcell0, hcls, hvmc, hslots⟩ := xm_lat hG i
    subst hcls
    have hmade : Lambda.isMade { classPath := fun _ => none } s.vm mD.cls (xm_ls i.val).2.2.2 cell.cls = true := Lambda.isMade_warmer hW hmade0
    have hcan : s.lambdaCallable (xm_ls i.val).2.2.2 cell.cls = true := by
      simp only [State.lambdaCallable, hA.findClass, hA.assignable, hA.superclasses, hA.declaredIn] at hcan0 ⊢
      exact hcan0
    obtain ⟨kD0, hkD0, hnameD0⟩ := className_of_methodNamed q1
    cases q2.symm.trans hkD0
    obtain ⟨kD', hkD', heD⟩ := hA.2.2 _ _ q2
    have hnameD : kD'.name = xl_own i.val := by rw [heD]; exact hnameD0
    obtain ⟨r0, r, hn0, hrm0, hstR, hsigR, cL, kL, hcL, hkL, hiL, hfoundL⟩ : ∃ (r0 : MethodId) (r : Method), g.2.1.methodNamed? (xl_x i.val) = some r0 ∧ g.2.1.vm.method? r0 = some r ∧ r.isStatic = false ∧ parseMethodDescriptor (xl_x i.val).desc = some r.sig ∧ ∃ (cL : ClassId) (kL : Class), g.2.1.vm.findClass (xl_x i.val).cls = some cL ∧ g.2.1.vm.classes[cL]? = some kL ∧ kL.isInterface = true ∧ g.2.1.methodFound? (xl_x i.val).cls (xl_x i.val).name (xl_x i.val).desc = some r0 := by
      obtain ⟨a0, h0, -⟩ := hG
      obtain ⟨r0, r, hn0, hrm0, hstR, hsigR⟩ := Cond.declares_spec (h0 _ (xl_g2 i).1)
      obtain ⟨cL, kL, r1, hcL, hkL, hiL, hfoundL, hn1⟩ := Cond.interfaceMethod_spec (h0 _ (xl_g2 i).2)
      cases hn0.symm.trans hn1
      exact ⟨r0, r, hn0, hrm0, hstR, hsigR, cL, kL, hcL, hkL, hiL, hfoundL⟩
    have hr0cls : r0.cls = cL := Option.some.inj ((findClass_of_methodNamed hn0).symm.trans hcL)
    obtain ⟨hnameR, hdescR⟩ := name_of_methodNamed hn0 hrm0
    have hn : s.methodNamed? (xl_x i.val) = some r0 := by
      have h1 := State.methodNamed?_setVm (s := g.2.1) hA (xl_x i.val)
      rw [hn0] at h1
      exact h1
    have hrm : s.vm.method? r0 = some r := by rw [hA.method?]; exact hrm0
    have hcLs : s.vm.findClass (xl_x i.val).cls = some cL := by rw [hA.findClass]; exact hcL
    obtain ⟨kL', hkL', heL⟩ := hA.2.2 _ _ hkL
    have hiL' : kL'.isInterface = true := by rw [heL]; exact hiL
    have hfoundS : s.methodFound? (xl_x i.val).cls (xl_x i.val).name (xl_x i.val).desc = some r0 := by
      have h1 := State.methodFound?_setVm (s := g.2.1) hA (xl_x i.val).cls (xl_x i.val).name (xl_x i.val).desc
      rw [hfoundL] at h1
      exact h1
    obtain ⟨-, -, -, -, -, -, -, iface', -, -, -, -, found, -, -, -, -, -, hi', -, -, -, -, -, -, hfound', -, -, -, -, -, -, -, -, -, -, hsel⟩ := Lambda.isMade_spec hmade
    cases hcLs.symm.trans hi'
    have hfr : found = r0 := by
      have h1 : s.methodFound? (xm_ls i.val).2.2.2.iface (xm_ls i.val).2.2.2.name (xm_ls i.val).2.2.2.sam.toString = some r0 := hfoundS
      have hcL' : s.vm.findClass (xm_ls i.val).2.2.2.iface = some cL := hcLs
      simp only [State.methodFound?, hcL', hkL', hiL', Option.bind_eq_bind, Option.bind_some] at h1
      rw [hfound'] at h1
      exact Option.some.inj h1
    subst hfr
    obtain ⟨i2, hi2, hasg, hway⟩ := State.lambdaCallable_spec hcan
    cases hcLs.symm.trans hi2
    have hxx := xl_xof i hi9
    obtain ⟨hcc1, hcc2, hcc3⟩ := xl_kof i hi9
    have hsigI : r.sig = ⟨[.object "StringTableau$Row", .int], some .boolean⟩ := by
      rw [hxx] at hsigR
      exact (Option.some.inj ((by decide +kernel : parseMethodDescriptor "(LStringTableau$Row;I)Z" = some ⟨[.object "StringTableau$Row", .int], some .boolean⟩).symm.trans hsigR)).symm
    obtain ⟨kK, tk, file, methk, ckK, toy, t, hkK, hkn, hfile, hpool, hmk, hckK, hbytes, hmlK, hlkK, hfl, hretk, htoy, htk, hlook, hready, hclsR⟩ := xl_made i hkD' hnameD hmade
    have hcellT : T.heap[xm_la g i.val]? = some cell := by
      rw [hT]
      exact (hR.2.2 _ (Array.getElem?_eq_some_iff.mp hcell0).1).trans hcell0
    obtain ⟨vm₁, X₁, hstep₁⟩ := X.invokeinterface hx ho (x := xl_x i.val) (by rw [hxx]; exact hts _ hl0) hn hrm hstR (by rw [hr0cls]; exact hkL') hiL' (by rw [hxx]; exact ⟨by decide, by decide⟩) (a := xm_la g i.val) (cell := cell) (kcell := kK) hcellT (fun z h => by rw [hvmc] at h; cases h) hkK (by rw [hr0cls]; exact hasg)
      (m' := ⟨cell.cls, 1⟩) (meth' := methk) (by rw [Launch.admits_selectMethod X.admits]; exact hsel) hmk (by rw [hnameR, hdescR]; exact hway) (by rw [hfl]; decide) (by simp [Method.isAbstract, hfl, hasFlag, Acc.abstract])
      (g := F0 m pc lsA (.int x :: v :: .ref (xm_la g i.val) :: rest)) rfl (argsL := [v, .int x]) (rest := rest) (by rw [hsigI]; rfl) rfl (by rw [hb]; exact hd)
    have hW₁ : s.WarmedH vm₁ := X₁.warmed
    obtain ⟨kD₁, hkD₁, heD₁⟩ := hW₁.alike.2.2 _ _ hkD'
    have hnameD₁ : kD₁.name = xl_own i.val := by rw [heD₁]; exact hnameD
    obtain ⟨kK₁, tk₁, file₁, methk₁, ckK₁, toy₁, t₁, hkK₁, hkn₁, hfile₁, hpool₁, hmk₁, hckK₁, hbytes₁, hml₁, hlk₁, hfl₁, hretk₁, htoy₁, htk₁, hlook₁, hready₁, hclsR₁⟩ := xl_made i hkD₁ hnameD₁ (Lambda.isMade_warmer hW₁ hmade)
    rw [hcc1] at hbytes₁
    rw [hcc2] at hml₁
    rw [hcc3] at hretk₁
    have hcodeT := hts _ hmk9.1
    obtain ⟨mT, hmT⟩ := Cond.code_named hcodeT
    obtain ⟨methT, cT, hmethT, hcT, hbytesT, hlocT, hretT, hlocksT, -, hsigT⟩ := Cond.code_spec hmT hcodeT
    have hstaticT : methT.isStatic = true := Cond.static_spec hmT hmethT (by rw [hMy]; exact hts _ (xl_g1 i).1)
    obtain ⟨kT, hkT, hnameT⟩ := className_of_methodNamed hmT
    have hfT : s.vm.findClass y'.cls = some mT.cls := findClass_of_methodNamed hmT
    have hinitK : kT.init = .initialized := Cond.initialized_spec hfT hkT (hts _ hmk9.2.1)
    have hfT₁ : vm₁.findClass (xm_ls i.val).2.2.2.implClass = some mT.cls := by
      rw [hW₁.alike.findClass]
      rw [hMy] at hfT
      exact hfT
    cases htoy₁.symm.trans hfT₁
    have ht₁ : t₁ = mT := by
      have h1 : (s.setVm vm₁).methodFound? y'.cls y'.name y'.desc = some mT := by rw [State.methodFound?_setVm hW₁.alike]; exact State.methodFound?_of_named hmT hmk9.2.2.2.1
      rw [hMy] at h1
      have h2 : (s.setVm vm₁).methodFound? (xm_ls i.val).2.2.2.implClass (xm_ls i.val).2.2.2.implName (xm_ls i.val).2.2.2.implDesc.toString = some mT := h1
      simp only [State.methodFound?, State.vm_setVm, hfT₁, htk₁, Option.bind_eq_bind, Option.bind_some] at h2
      rw [hlook₁] at h2
      exact Option.some.inj h2
    subst ht₁
    have hmethT₁ : vm₁.method? t₁ = some methT := by rw [hW₁.alike.method?]; exact hmethT
    obtain ⟨kT₁, hkT₁, heT₁⟩ := hW₁.alike.2.2 _ _ hkT
    cases htk₁.symm.trans hkT₁
    have hnm1 : tk₁.name ≠ "java/lang/invoke/MethodHandle" ∧ tk₁.name ≠ "java/lang/invoke/VarHandle" := by
      have : tk₁.name = y'.cls := by rw [heT₁]; exact hnameT
      rw [this]
      exact hmk9.2.2.2.1
    have hsp : ∀ y : Method, signaturePolymorphic tk₁ y = false := fun y => by simp [signaturePolymorphic, hnm1.1, hnm1.2]
    obtain ⟨e17, e17b, e17c⟩ := xl_f5 i
    obtain ⟨bb, hmem9⟩ := memberRef_ask' (e := e) (vm := vm₁) (d := cell.cls) (index := 17) hkK₁ hfile₁ (Or.inl (by rw [hpool₁]; exact e17)) (by rw [hpool₁]; exact e17c)
    have hpk : (T.setVm vm₁).plainMethod ⟨cell.cls, 1⟩ := State.plainMethod.of_name (fun k' hk' => by cases hkK₁.symm.trans hk'; rw [hkn₁]; exact xl_pn i)
    have hlenT : ([v, .int x] : List Value).length = methT.sig.parameters.length := xm_par (M := (y', b', L', r', [])) hmk9.2.2.2.2 _ hsigT
    have hszF : (F0 m pc lsA rest).locals.size = c.maxLocals := hl.1
    have hdgF : decode c.code (F0 m pc lsA rest).pc = .ok (.invokeinterface index 3, 5) := by
      rw [hb]
      exact hd
    have hWU : g.2.1.WarmedH vm₁ := hW.trans hW₁
    obtain ⟨Y₀, hin⟩ := X₁.into (g := F0 m pc lsA rest) rfl hszF hdgF #[.ref (xm_la g i.val), v, .int x] (R' := xm_rm (d - 1) 0 0) hmk₁ hckK₁ hlk₁ hpk (by show d - 1 + 1 ≤ R.frames; rw [hRf]; omega)
      (by rw [hml₁]; show 2 * 0 + (rest.map fun v => v.category).sum + (3 + 11) + (4096 + 64 * (d - 1)) ≤ R.locals; omega) (by show cells + 0 ≤ R.cells; omega) (by show slots + 0 ≤ R.slots; omega)
    generalize hU : ((T.setVm vm₁).setTop (F0 m pc lsA rest)).pushFrame (.java (entryFrame ⟨cell.cls, 1⟩ #[.ref (xm_la g i.val), v, .int x] ckK₁.maxLocals)) = U at Y₀ hin
    have hUvm : U.vm = vm₁ := by rw [← hU]; rfl
    have hUh : U.heap = Hp := by rw [← hU, ← hT]; rfl
    have hL45 : L' ≤ 45 := hmk9.2.2.1
    have hws : ∀ (w : Cond), w ∈ lw_all → ∀ (a' : Array Value) (U2 : State), ((T.setVm vm₁).calling (F0 m pc lsA rest) ⟨cell.cls, 1⟩ #[.ref (xm_la g i.val), v, .int x]).WarmedH U2.vm → w.before a' U2 = true := by
      intro w hw a' U2 hU2
      have h1 : g.2.1.WarmedH ((T.setVm vm₁).calling (F0 m pc lsA rest) ⟨cell.cls, 1⟩ #[.ref (xm_la g i.val), v, .int x]).vm := hWU
      exact xm_hts hG (h1.trans hU2) a' w hw
    have hK := vq_back (l := g.1) (R := xm_rm (d - 1) 0 0) (p := p) (e := e) (below := .java (F0 m pc lsA rest) :: below) (s := (T.setVm vm₁).calling (F0 m pc lsA rest) ⟨cell.cls, 1⟩ #[.ref (xm_la g i.val), v, .int x]) (sargs := #[.ref (xm_la g i.val), v, .int x]) (y := y') (len := 3) (W9 := 8) (bytes := b') (maxL := L') (ret := r') HR (xm_blind g _ h) rfl rfl
      (by show d' + 1 ≤ d - 1; omega) (by show 8 + (L' + 11) + (4096 + 64 * d') ≤ 4096 + 64 * (d - 1); omega) (fun w hw a' U2 hU2 => by rw [List.mem_singleton.mp hw]; exact hws _ hmk9.1 a' U2 hU2) (List.mem_singleton.mpr rfl) (fun a' U2 hU2 => hws _ hmk9.2.1 a' U2 hU2)
    have hnU : U.methodNamed? y' = some t₁ := by
      have h1 := State.methodNamed?_setVm (s := s) hW₁.alike y'
      rw [hmT] at h1
      have h2 : (s.setVm vm₁).vm = U.vm := by rw [hUvm]; rfl
      simp only [State.methodNamed?, h2] at h1 ⊢
      exact h1
    rcases hK ⟨cell.cls, 1⟩ methk₁ ckK₁ ⟨U, [], 0, 0⟩ { method := ⟨cell.cls, 1⟩, pc := 2, locals := #[.val (.ref (xm_la g i.val)), .val v, .val (.int x)], stack := [], locked := none } (.invokestatic 17) t₁ [v, .int x].toArray Y₀ rfl (by rw [hml₁]; rfl) (by rw [hbytes₁]; exact xl_d1.2.2.1) (by show 2 * 0 + 0 ≤ 8; omega) hnU
      ⟨Nat.le_refl _, Nat.le_refl _, rfl, by rw [hUvm]; exact hWU, by rw [hUh]; exact hR⟩ with ⟨w, B, Y', hpost, hsteps⟩ | ⟨q, B, Y', hpost, hsteps⟩
    · obtain ⟨g', mk', t', LL, e1, e2, hqc, e4, e5, e6, e7⟩ := hpost
      obtain ⟨rr, h', hrr, ⟨z, ⟨rfl, hnz⟩, hkk⟩, hR', hz⟩ := hqc
      cases hrr
      have hvF := hz
      obtain ⟨fs, hleave, -, hended, hWe, hsame⟩ := Y'.leave (v := some (.int z)) (fun h9 => by rw [hretk₁] at h9; cases h9) hlk₁
      obtain ⟨T', X', hW', -, ht⟩ := X₁.outOf (g := F0 m pc lsA rest) rfl hdgF hended hWe hsame
      have hTh : T'.heap = t'.heap := by
        have h1 := congrArg State.heap ht
        have h2 : (B.U.setFrames fs).heap = B.U.heap := rfl
        rw [h2, e1] at h1
        exact h1.symm
      have e4' : B.locs = LL := by rw [e4]; rfl
      have e6' : B.cells = 0 := e6
      have e7' : B.slots = 0 := e7
      rw [e4', e6', e7'] at X'
      have hS' : va_S (xm_A g) s.heap T'.heap (locs ++ LL) := by
        obtain ⟨hz1, hz2⟩ := hvF
        have h0 : (U.calling g' mk' [v, .int x].toArray).heap = Hp := hUh
        rw [h0] at hz1 hz2
        refine ⟨Nat.le_trans hS.1 (by rw [hTh]; exact hz1), fun q q1 q2 => by rw [hTh, hz2 q (Nat.lt_of_lt_of_le q1 hS.1) q2]; exact hS.2.1 q q1 q2, fun q hq => ?_⟩
        rcases List.mem_append.mp hq with h | h
        · exact hS.2.2 q h
        · exact e5 q h
      obtain ⟨t2, a1, b1⟩ := hk _ _ _ _ _ _ hkk lsA T'.heap (locs ++ LL) (cells + 0) (slots + 0) hl (by rw [hTh]; exact hR') hS' (by omega) (by omega) T' rfl X'
      refine ⟨t2, hstep₁ _ fun acts => ?_, b1⟩
      have hin2 := hin acts
      refine Steps.trans (s₂ := T'.setTop { F0 m pc lsA rest with pc := pc + 5, stack := (some (Value.int z)).toList ++ rest }) ?_ a1
      rw [hin2]
      have ht2 : B.U.setFrames fs = T'.setTop { F0 m pc lsA rest with pc := pc + 5, stack := (some (Value.int z)).toList ++ rest } := ht
      rw [← ht2]
      refine Steps.weaken (mid := [.java (F0 m pc lsA rest)]) ?_
      have hloc : entryFrame ⟨cell.cls, 1⟩ #[.ref (xm_la g i.val), v, .int x] ckK₁.maxLocals = { method := ⟨cell.cls, 1⟩, pc := 0, locals := #[.val (.ref (xm_la g i.val)), .val v, .val (.int x)], stack := [], locked := none } := by
        rw [hml₁]
        rcases hv with rfl | ⟨r9, rfl⟩ <;> rfl
      rw [hloc]
      have hs9 : U.topJava?.isSome := Y₀.here.top
      have hvr : v.isRef = true := by
        rcases hv with rfl | ⟨r, rfl⟩ <;> rfl
      jvm_step Y₀.here [hx, hbytes₁, xl_d1.1, hvr]
      jvm_step Y₀.here [hx, hbytes₁, xl_d1.2.1]
      skip
      jvm_step Y₀.here [hx, hbytes₁, xl_d1.2.2.1, invokestatic.wp_ready (e := e) (s := U) (m := t₁) (k := tk₁) (meth := methT) (args := [v, .int x]) (rest := [])
        (f := { method := ⟨cell.cls, 1⟩, pc := 2, locals := #[.val (.ref (xm_la g i.val)), .val v, .val (.int x)], stack := [.int x, v], locked := none }) hs9 ⟨14, _, _, bb, t₁.cls, tk₁, by rw [hUvm]; exact hmem9, by rw [hUvm]; exact hclsR₁, by rw [hUvm]; exact htk₁, by simp [hsp]⟩ (by rw [hUvm]; exact hready₁) (by rw [hUvm]; exact htk₁) (by rw [hUvm]; exact hmethT₁) (hsp _) hstaticT (by rw [heT₁]; exact hinitK) hlenT rfl]
      intro acts'
      rw [doInvoke_state]
      refine hsteps.trans ?_
      jvm_step Y'.here [Y'.here.top, hx, hbytes₁, xl_d1.2.2.2, Y'.method', hretk₁, hnz]
      intro acts''
      rw [hleave { method := ⟨cell.cls, 1⟩, pc := 5, locals := #[.val (.ref (xm_la g i.val)), .val v, .val (.int x)], stack := [], locked := none } acts'' rfl rfl rfl]
      exact Steps.refl _
    · obtain ⟨g', mk', t', LL, E, ce, e1, e2, ⟨h', hX, -⟩, -⟩ := hpost
      exact hX.elim
  · exact H.elim
