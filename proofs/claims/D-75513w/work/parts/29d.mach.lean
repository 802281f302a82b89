/-! MORE OF THE MACHINE: Math.max and min, private methods on an heir, class objects, float constants, an array's clone -/
set_option maxRecDepth 100000
section XSD
variable {g : xm_G} {Γ : xm_C} {M : xm_M} {d : Nat} {Q : xm_P} {X : xm_X} {pc : Nat}
def xi_mm (f : Int32 → Int32 → Int32) (n : Nat) : xm_I := fun ls st h bc bs k => match st with
  | .int y :: .int x :: r => xm_stk 2 st = true ∧ k n ls (.int (f x y) :: r) h bc bs
  | _ => False
theorem xs_mmax (hG : xm_Gw g) (hΓ : xm_ok g Γ M d Q X) (hdd : Nat.ble 1 d = true) {index : Nat} (hl0 : Cond.methodLink M.1.cls index Lib.Math.max.name ∈ lw_all) (hd : decode M.2.1 pc = .ok (.invokestatic index, 3)) : xm_Imp g Γ pc (xi_mm (fun x y => if x < y then y else x) (pc + 3)) := by
  obtain ⟨p, e, R, s, m, args, below, meth, c, Qf⟩ := Γ
  obtain ⟨hx, hb, hml, hr, ho, hnm, hlk, htb, hW, hB0, hRf, hRl, hQf⟩ := hΓ
  intro ls st h bc bs k hk H lsA Hp locs cells slots hl hR hS hc hs
  have hts := xm_hts hG hW args
  have hdd := Nat.le_of_ble_eq_true hdd
  unfold xi_mm at H
  split at H
  · next y x r =>
    obtain ⟨hk0, H⟩ := H
    have hk2 := (xm_stk_of hk0).2
    refine va_mmax hx hb hl.1.symm ho (hts _ hl0) (hts _ q438) (hts _ q135) (hts _ q439) (by omega) ?_ (by omega) (by omega) hd (hk _ _ _ _ _ _ H lsA Hp locs cells slots hl hR hS hc hs)
    have : (r.map fun v => v.category).sum ≤ 8 := hk2
    omega
  · exact H.elim
theorem xs_mmin (hG : xm_Gw g) (hΓ : xm_ok g Γ M d Q X) (hdd : Nat.ble 1 d = true) {index : Nat} (hl0 : Cond.methodLink M.1.cls index Lib.Math.min.name ∈ lw_all) (hd : decode M.2.1 pc = .ok (.invokestatic index, 3)) : xm_Imp g Γ pc (xi_mm (fun x y => if y < x then y else x) (pc + 3)) := by
  obtain ⟨p, e, R, s, m, args, below, meth, c, Qf⟩ := Γ
  obtain ⟨hx, hb, hml, hr, ho, hnm, hlk, htb, hW, hB0, hRf, hRl, hQf⟩ := hΓ
  intro ls st h bc bs k hk H lsA Hp locs cells slots hl hR hS hc hs
  have hts := xm_hts hG hW args
  have hdd := Nat.le_of_ble_eq_true hdd
  unfold xi_mm at H
  split at H
  · next y x r =>
    obtain ⟨hk0, H⟩ := H
    have hk2 := (xm_stk_of hk0).2
    refine va_mmin hx hb hl.1.symm ho (hts _ hl0) (hts _ q456) (hts _ q135) (hts _ q457) (by omega) ?_ (by omega) (by omega) hd (hk _ _ _ _ _ _ H lsA Hp locs cells slots hl hR hS hc hs)
    have : (r.map fun v => v.category).sum ≤ 8 := hk2
    omega
  · exact H.elim
theorem xs_ldcf (hG : xm_Gw g) (hΓ : xm_ok g Γ M d Q X) {index : Nat} {v : UInt32} (hq : Cond.constantFloat M.1.cls index v ∈ lw_all) (hd : decode M.2.1 pc = .ok (.ldc index, 2)) : xm_Imp g Γ pc (xi_psh (.float v) (pc + 2)) := by
  obtain ⟨p, e, R, s, m, args, below, meth, c, Qf⟩ := Γ
  obtain ⟨hx, hb, -, -, ho, -, -, -, hW, -⟩ := hΓ
  intro ls st h bc bs k hk H lsA Hp locs cells slots hl hR hS hc hs
  exact lv_ldcf hx hb ho (xm_hts hG hW args _ hq) hd (hk _ _ _ _ _ _ H lsA Hp locs cells slots hl hR hS hc hs)
/-- a private method is selected on an heir too -/
theorem xm_selp {s : State} {args : Array Value} {C : String} {y z : MethodName} (hy : y.cls ≠ "java/lang/invoke/MethodHandle" ∧ y.cls ≠ "java/lang/invoke/VarHandle") (hz : (Cond.selects C z z).before args s = true) (hcz : z.cls = y.cls)
    (hpriv : (Cond.privateMethod y).before args s = true) (hinst : (Cond.instanceMethod y).before args s = true) : (Cond.selects C y y).before args s = true := by
  obtain ⟨c, r0, m0, hc, -, hm0, -, k, hk, hki⟩ := Cond.selects_spec hz
  obtain ⟨mk, methM, hnamed, hmethM, -, -⟩ := Cond.instanceMethod_spec hinst
  have hfound : s.methodFound? y.cls y.name y.desc = some mk := State.methodFound?_of_named hnamed hy
  have hcls : mk.cls = m0.cls := by
    have h1 := findClass_of_methodNamed hnamed
    have h2 := findClass_of_methodNamed hm0
    rw [hcz] at h2
    exact Option.some.inj (h1.symm.trans h2)
  have hsel : selectMethod {} s.vm c mk = .method mk := selectMethod_private hmethM (Cond.privateMethod_at hpriv mk methM hnamed hmethM)
  simp only [Cond.before, Cond.holds, Cond.value, hc, hfound, hnamed, hsel, hcls, hk]
  simp
  exact hki
theorem xs_invVp (hG : xm_Gw g) (hΓ : xm_ok g Γ M d Q X) {y z : MethodName} {b : ByteArray} {L : Nat} {r : Option FieldType} {d' n index : Nat} (hm : xm_mk (y, b, L, r, []) n) (hdd : Nat.ble (d' + 1) d = true) {ci : Nat} {rr : vw_C} (hc0 : xm_cl[ci]? = some rr) (hl0 : Cond.methodLink M.1.cls index y ∈ lw_all) (hin : Cond.instanceMethod y ∈ lw_all) (hz : Cond.selects rr.1 z z ∈ lw_all) (hcz : z.cls = y.cls) (hpr : Cond.privateMethod y ∈ lw_tbl) (hd : decode M.2.1 pc = .ok (.invokevirtual index, 3)) : xm_Imp g Γ pc (xi_vir g ci (y, b, L, r, []) d' n (pc + 3)) := by
  obtain ⟨p, e, R, s, m, args, below, meth, c, Qf⟩ := Γ
  obtain ⟨hx, hb, hml, hr, ho, hnm, hlk, htb, hW, hB0, hRf, hRl, hQf⟩ := hΓ
  intro ls st h bc bs k hk H lsA Hp locs cells slots hl hR hS hc hs
  have hdd : d' + 1 ≤ R.frames := by rw [hRf]; exact Nat.le_of_ble_eq_true hdd
  have hRL : R.locals = 4096 + 64 * R.frames := by rw [hRf]; exact hRl
  have hts := xm_hts hG hW args
  have hse : (Cond.selects rr.1 y y).before args s = true := by
    obtain ⟨a0, h0, -⟩ := hG
    exact word_at hW (good_of_word rfl) (xm_selp ⟨hm.2.2.2.1.1, hm.2.2.2.1.2⟩ (h0 _ (lw_all_tbl hz)) hcz (h0 _ hpr) (h0 _ (lw_all_tbl hin)))
  obtain ⟨hk0, H⟩ := H
  obtain ⟨hk1, hk2⟩ := xm_stk_of hk0
  split at H
  · next b0 rest hdr =>
    obtain ⟨w, fs, mc, ms, hbb, ⟨h1, h2⟩, H⟩ := H
    have hcell := xm_cell hG hW (hR.1 _ _ _ hbb).1 (C := rr.1) ⟨rr, hc0, rfl⟩
    exact xm_back (va_runV (As := (st.take n).reverse) (rest := rest) (nL := c.maxLocals) ⟨hx, hb, rfl, ho, hts⟩ H.met ⟨xm_cb hG hW hm hdd hRL hl0, hts _ hin, hse⟩ ⟨xm_blind g _ h, hcell, xm_pre hW hR _⟩ rfl (xm_tlen hk1) hl.1 (xm_split2 hdr) (lv_room (xm_sum2 hdr hk2)) hd ⟨by omega, by omega⟩) hl hS hc hs h1 h2 rfl (fun r h' hq => hk _ _ _ _ _ _ hq)
  · exact H.elim
/-! class objects -/
def xm_mi (g : xm_G) (C : String) : Nat := match (Term.mirror C).eval #[] g.2.1 none [] g.2.1 with
  | some (.ref a) => a
  | _ => 0
theorem xm_Mi (hG : xm_Gw g) {s : State} (hW : g.2.1.WarmedH s.vm) {C : String} (h : Cond.isRef (.mirror C) ∈ flatC (Jvm.Cond.and given_1 narrow_1)) : va_Mi C (xm_mi g C) s := by
  obtain ⟨a0, -, h1, -⟩ := hG
  have h3 : (Cond.isRef (.mirror C)).before #[] g.2.1 = true := flat_of_before _ h1 _ h
  obtain ⟨v, hv, -⟩ := Cond.isRef_spec h3
  obtain ⟨c, k, a, e1, e2, e3, e4⟩ := Term.mirror_spec hv
  have e5 : xm_mi g C = a := by
    unfold xm_mi
    rw [hv, e4]
  rw [e5]
  exact va_Mi.moved hW.alike ⟨c, k, e1, e2, e3⟩
theorem xs_ldM (hG : xm_Gw g) (hΓ : xm_ok g Γ M d Q X) {index : Nat} {C : String} (hl0 : Cond.classLink M.1.cls index C ∈ lw_all) (h : Cond.isRef (.mirror C) ∈ flatC (Jvm.Cond.and given_1 narrow_1)) (hd : decode M.2.1 pc = .ok (.ldc index, 2)) : xm_Imp g Γ pc (xi_psh (.ref (xm_mi g C)) (pc + 2)) := by
  obtain ⟨p, e, R, s, m, args, below, meth, c, Qf⟩ := Γ
  obtain ⟨hx, hb, -, -, ho, -, -, -, hW, -⟩ := hΓ
  intro ls st h0 bc bs k hk H lsA Hp locs cells slots hl hR hS hc hs
  exact va_ldcM hx hb ho (xm_hts hG hW args _ hl0) (xm_Mi hG hW h) hd (hk _ _ _ _ _ _ H lsA Hp locs cells slots hl hR hS hc hs)
/-- getClass() of an array -/
def xi_gcl (ty : FieldType) (mi : Nat) (n : Nat) : xm_I := fun ls st h bc bs k => match st with
  | .ref a :: r => ∃ (w : Bool) (A : vp_A), h a = some (w, .inl (ty, A)) ∧ xm_stk 0 st = true ∧ k n ls (.ref mi :: r) h bc bs
  | _ => False
theorem xs_gcl (hG : xm_Gw g) (hΓ : xm_ok g Γ M d Q X) (hdd : Nat.ble 1 d = true) {ty : FieldType} {C : String} (hC : "[" ++ ty.toString = C) {index : Nat} (hl0 : Cond.methodLink M.1.cls index ⟨"java/lang/Object", "getClass", "()Ljava/lang/Class;"⟩ ∈ lw_all) (hdc : Cond.declares ⟨"java/lang/Object", "getClass", "()Ljava/lang/Class;"⟩ ∈ lw_tbl)
    (hsel : Cond.selects C ⟨"java/lang/Object", "getClass", "()Ljava/lang/Class;"⟩ ⟨"java/lang/Object", "getClass", "()Ljava/lang/Class;"⟩ ∈ lw_all) (hin : Cond.instanceMethod ⟨"java/lang/Object", "getClass", "()Ljava/lang/Class;"⟩ ∈ lw_all) (hnat : Cond.native ⟨"java/lang/Object", "getClass", "()Ljava/lang/Class;"⟩ ∈ lw_all) (h : Cond.isRef (.mirror C) ∈ flatC (Jvm.Cond.and given_1 narrow_1)) (hd : decode M.2.1 pc = .ok (.invokevirtual index, 3)) : xm_Imp g Γ pc (xi_gcl ty (xm_mi g C) (pc + 3)) := by
  obtain ⟨p, e, R, s, m, args, below, meth, c, Qf⟩ := Γ
  obtain ⟨hx, hb, hml, hr, ho, hnm, hlk, htb, hW, hB0, hRf, hRl, hQf⟩ := hΓ
  intro ls st h0 bc bs k hk H lsA Hp locs cells slots hl hR hS hc hs
  have hts := xm_hts hG hW args
  have hdd := Nat.le_of_ble_eq_true hdd
  unfold xi_gcl at H
  split at H
  · next a r =>
    obtain ⟨w, A, ha, hk0, H⟩ := H
    have hk2 := (xm_stk_of hk0).2
    have hcell := xm_cell hG hW (hR.1 _ _ _ ha).1 (C := C) hC
    refine va_getC hx hb hl.1.symm ho (hts _ hl0) (va_Nw.use rfl (xm_dcl hG hW hdc)) (hts _ hsel) (hts _ hin) (hts _ hnat) (xm_Mi hG hW h) hcell (by omega) ?_ hd (hk _ _ _ _ _ _ H lsA Hp locs cells slots hl hR hS hc hs)
    have h8 : ((Value.ref a :: r).map fun v => v.category).sum ≤ 8 := hk2
    simp only [List.map_cons, List.sum_cons] at h8
    omega
  · exact H.elim
/-- the clone of an array of bytes of our own -/
def xi_cln (n : Nat) : xm_I := fun ls st h bc bs k => match st with
  | .ref a :: r => ∃ (N : Nat) (f : Nat → Int32), h a = some (true, .inl (.byte, N, .inl f)) ∧ (∀ i, i < N → fits .byte (.int (f i)) = true) ∧ xm_stk 0 st = true ∧ (1 ≤ bc ∧ N ≤ bs) ∧ ∀ q : Nat, h q = none → k n ls (.ref q :: r) (xm_up h q (.inl (.byte, N, .inl f))) (bc - 1) (bs - N)
  | _ => False
theorem xs_cln (hG : xm_Gw g) (hΓ : xm_ok g Γ M d Q X) (hdd : Nat.ble 1 d = true) {index : Nat} (hl0 : Cond.methodLink M.1.cls index ⟨"[B", "clone", "()Ljava/lang/Object;"⟩ ∈ lw_all) (hsm : Cond.sameMethod "[B" "java/lang/Object" "clone" "()Ljava/lang/Object;" ∈ lw_all) (hnat : Cond.native ⟨"java/lang/Object", "clone", "()Ljava/lang/Object;"⟩ ∈ lw_all) (hin : Cond.instanceMethod ⟨"java/lang/Object", "clone", "()Ljava/lang/Object;"⟩ ∈ lw_all)
    (hsel : Cond.selects "[B" ⟨"[B", "clone", "()Ljava/lang/Object;"⟩ ⟨"java/lang/Object", "clone", "()Ljava/lang/Object;"⟩ ∈ lw_all) (hcl : Cond.castable "[B" "java/lang/Cloneable" ∈ lw_tbl) (hd : decode M.2.1 pc = .ok (.invokevirtual index, 3)) : xm_Imp g Γ pc (xi_cln (pc + 3)) := by
  obtain ⟨p, e, R, s, m, args, below, meth, c, Qf⟩ := Γ
  obtain ⟨hx, hb, hml, hr, ho, hnm, hlk, htb, hW, hB0, hRf, hRl, hQf⟩ := hΓ
  intro ls st h bc bs k hk H lsA Hp locs cells slots hl hR hS hc hs
  have hts := xm_hts hG hW args
  have hdd := Nat.le_of_ble_eq_true hdd
  unfold xi_cln at H
  split at H
  · next a r =>
    obtain ⟨N, f, ha, hfit, hk0, ⟨h1, h2⟩, H⟩ := H
    have hk2 := (xm_stk_of hk0).2
    have h8 : ((Value.ref a :: r).map fun v => v.category).sum ≤ 8 := hk2
    simp only [List.map_cons, List.sum_cons] at h8
    have hty : FieldType.byte ∈ xm_tl := by decide
    obtain ⟨-, hcell⟩ := (hR.1 _ _ _ ha).1
    have har := xm_arr (xm_Ks hG hW) hty
    have hnm2 : s.vm.findClass "[B" = some (g.2.2.2 .byte) := har.2
    obtain ⟨c0, t0', f1, f2, f3⟩ := Cond.castable_spec (va_Nw.use (A := args) rfl (xm_cst hG hW hcl))
    cases hnm2.symm.trans f1
    intro T hT X
    have hcellT : T.heap[a]? = some (vp_cell (g.2.2.2 .byte) (N, .inl f)) := by rw [hT]; exact hcell
    obtain ⟨-, kA, hkA, comp, hkind⟩ := State.isArrayOf_alike X.warmed.alike (har.1 0 (fun _ => .null))
    obtain ⟨-, kS, hkS, compS, hkindS⟩ := har.1 0 (fun _ => .null)
    obtain ⟨vm', X', st⟩ := X.cloneArray hx ho (hts _ hl0) (hts _ hsm) (hts _ hnat) (hts _ hin) (hts _ hsel) (a := a) (cell := vp_cell (g.2.2.2 .byte) (N, .inl f)) hcellT (fun k h => by cases h) (fun h => by cases h) hnm2 f2 f3
      (fun i v hv => by
        have hk' : T.vm.classes[g.2.2.2 .byte]? = some kA := hkA
        have hv2 : fits .byte v = true := va_fit (cA := g.2.2.2 .byte) (n := N) (F := fun j => Value.int (f j)) hfit i v hv
        have hc9 : (vp_cell (g.2.2.2 .byte) (N, .inl f)).cls = g.2.2.2 .byte := rfl
        simpa [State.fitsSlot, State.slotType?, hc9, hk', hkind] using hv2)
      (g := F0 m pc lsA (.ref a :: r)) rfl (by rw [hl.1]) rfl (by rw [hb]; exact hd) (by omega) (by show 2 * 0 + _ + 14 ≤ _; omega) (by omega) (by show slots + (arrV _ N _).slots.size ≤ _; rw [arrV_size]; omega) (hloader := Vm.clonesLoader_of_array hkS hkindS)
    have hsz : (vp_cell (g.2.2.2 .byte) (N, .inl f)).slots.size = N := arrV_size _ _ _
    rw [hsz] at X'
    generalize hH1 : Hp.push (vp_cell (g.2.2.2 .byte) (N, .inl f)) = H1
    have z1 : H1.size = Hp.size + 1 := by rw [← hH1, Array.size_push]
    have e1 : H1[Hp.size]? = some (vp_cell (g.2.2.2 .byte) (N, .inl f)) := by rw [← hH1, Array.getElem?_push_size]
    have o1 : ∀ q : Nat, q < Hp.size → H1[q]? = Hp[q]? := fun q hq => by rw [← hH1, Array.getElem?_push, if_neg (Nat.ne_of_lt hq)]
    have kk := hk _ _ _ _ _ _ (H Hp.size hR.fresh) lsA H1 locs (cells + 1) (slots + N) hl (hR.push ⟨hty, e1⟩ z1 o1) (xm_S1 hS z1 o1) (by omega) (by omega)
    subst hT
    obtain ⟨t, b1, b2⟩ := kk _ hH1 X'
    exact ⟨t, st t b1, b2⟩
  · exact H.elim
end XSD
