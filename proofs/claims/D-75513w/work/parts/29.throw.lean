/-! THROWS: a new exception without a message; an exception of ours -/
set_option maxRecDepth 100000
section XS9
variable {g : xm_G} {Γ : xm_C} {M : xm_M} {d : Nat} {Q : xm_P} {X : xm_X} {pc : Nat}
theorem xm_dcl {s : State} (hG : xm_Gw g) (hW : g.2.1.WarmedH s.vm) {x : MethodName} (h : Cond.declares x ∈ lw_tbl) : va_Nw (.declares x) s := by
  obtain ⟨a0, h0, -⟩ := hG
  exact va_Nw.warmD hW (va_Nw.of rfl (h0 _ h))
theorem xm_tr (hG : xm_Gw g) : g.1.stackTraces = false := by
  obtain ⟨a0, -, -, -, h⟩ := hG
  unfold Launch.stackTraces
  rw [h]
  decide +kernel
theorem xm_xq {p : Program} {l : Launch} {e : Env} {R : Room} {s : State} {m : MethodId} {args : Array Value} {below : List Frame} {meth : Method} {c : Code} {H : Heap} {locs : List Loc} {cells slots mc ms : Nat} {free : Addr → Prop} {gf : JFrame} {Qc : Array Value → State → Outcome → State → Prop} {XC0 : String → State → State → Prop} {XC : String → Addr → State → State → Prop} (hX : ∀ E q st t, XC0 E st t → XC E q st t)
    (k : W p l e R s m args below meth c H locs cells slots (vx_MQ below Qc XC0 args s mc ms free) gf) : W p l e R s m args below meth c H locs cells slots (vq_MQ below Qc XC args s mc ms free) gf := by
  intro T hT X
  obtain ⟨t, a1, o, b1, b2, b3⟩ := k T hT X
  refine ⟨t, a1, o, b1, b2, ?_⟩
  rcases b3 with h | ⟨q, e1, E, ce, L, hx, h⟩
  · exact Or.inl h
  · exact Or.inr ⟨q, e1, E, ce, L, hX E q _ _ hx, h⟩
theorem xm_zq (hG : xm_Gw g) {s : State} (hW : g.2.1.WarmedH s.vm) (hB0 : g.2.1.heap.size ≤ s.heap.size ∧ ∀ q : Nat, q < g.2.1.heap.size → s.heap[q]? = g.2.1.heap[q]?) {C n dc : String} (hly : Cond.laysStatic C n dc ∈ lw_tbl) (hin : Cond.initialized C ∈ lw_tbl) (hr : Cond.isRef (.static C n dc) ∈ flatC (Jvm.Cond.and given_1 narrow_1)) : vx_Zq C n dc (xm_A g) s s.heap := by
  obtain ⟨a0, h0, h1, -⟩ := hG
  exact vx_Zq.kept (vx_Zq.moved hW.alike (vx_Zqof (h0 _ hly) (h0 _ hin) (flat_of_before _ h1 _ hr) (fun a ha => Nat.not_le.mpr ha))) (fun a ha _ => hB0.2 a ha)
theorem xm_R.grow {h : xm_H} {H H1 : Heap} (hR : xm_R g h H) (hz : H.size ≤ H1.size) (hq : ∀ q : Nat, q < H.size → H1[q]? = H[q]?) : xm_R g h H1 :=
  ⟨fun a w o ha => ⟨(hR.1 a w o ha).1.kept (hq a (hR.1 a w o ha).1.lt), (hR.1 a w o ha).2⟩, Nat.le_trans hR.2.1 hz, fun q hl => (hq q (Nat.lt_of_lt_of_le hl hR.2.1)).trans (hR.2.2 q hl)⟩
def xi_thr0 (cls : String) (X : xm_X) : xm_I := fun _ st h bc bs _ => (1 ≤ bc ∧ 6 ≤ bs) ∧ xm_stk 0 st = true ∧ ∀ q : Nat, X cls q h
theorem xs_thr0 (hG : xm_Gw g) (hΓ : xm_ok g Γ M d Q X) {cls : String} {names : List String} {ik ic : Nat} (hh0 : M.2.2.2.2 = []) (hdd : Nat.ble (names.length + 4) d = true) (hcls : Bundle.fit cls = true) (hnames : ∀ n ∈ names, Bundle.fit n = true) (hnl : names.length ≤ 20) (hk0 : Cond.classLink M.1.cls ik cls ∈ lw_all) (hini : Cond.initialized cls ∈ lw_all) (hcc : Cond.castable cls cls ∈ lw_tbl)
    (hat : ∀ w ∈ vx_at0 M.1.cls ic cls names, w ∈ lw_all ∨ w = Cond.castable cls cls ∨ ∃ x, w = Cond.declares x ∧ w ∈ lw_tbl)
    (s1 : Cond.laysStatic Bundle.tN "UNASSIGNED_STACK" Bundle.steD ∈ lw_tbl) (s2 : Cond.laysStatic Bundle.tN "SUPPRESSED_SENTINEL" Bundle.listD ∈ lw_tbl) (s3 : Cond.initialized Bundle.tN ∈ lw_tbl) (s4 : Cond.isRef (.static Bundle.tN "UNASSIGNED_STACK" Bundle.steD) ∈ flatC (Jvm.Cond.and given_1 narrow_1)) (s5 : Cond.isRef (.static Bundle.tN "SUPPRESSED_SENTINEL" Bundle.listD) ∈ flatC (Jvm.Cond.and given_1 narrow_1))
    (d0 : decode M.2.1 pc = .ok (.new ik, 3)) (d3 : decode M.2.1 (pc + 3) = .ok (.dup, 1)) (d4 : decode M.2.1 (pc + 4) = .ok (.invokespecial ic, 3)) (d7 : decode M.2.1 (pc + 7) = .ok (.athrow, 1)) : xm_Imp g Γ pc (xi_thr0 cls X) := by
  obtain ⟨p, e, R, s, m, args, below, meth, c, Qf⟩ := Γ
  obtain ⟨hx, hb, hml, hr, ho, hnm, hlk, htb, hW, hB0, hRf, hRl, rfl⟩ := hΓ
  intro ls st h bc bs k hk H lsA Hp locs cells slots hl hR hS hc hs
  have hts := xm_hts hG hW args
  obtain ⟨⟨h1, h2⟩, h3, hX⟩ := H
  have hk2 := (xm_stk_of h3).2
  have hdd := Nat.le_of_ble_eq_true hdd
  have good : ∀ w ∈ lw_all, vx_ot w = true := fun w hw => by
    simp only [vx_ot, Bool.or_eq_true]
    exact Or.inr (List.mem_filter.mp hw).2
  refine xm_xq (XC0 := fun E st t => ∃ h : xm_H, (∀ q : Nat, X E q h) ∧ xm_R g h t.heap ∧ va_F (xm_A g) st t) (fun E q st t hq => by obtain ⟨h, e1, e2⟩ := hq; exact ⟨h, e1 q, e2⟩) ?_
  refine vx_throw0 (A := xm_A g) (names := names) (ik := ik) (ic := ic) hx hb (xm_tr hG) ho hcls hnames (hts _ hk0) (hts _ hini) (fun w hw => ?_) (fun w hw => ?_) (xm_zq hG hW hB0 s1 s3 s4) (xm_zq hG hW hB0 s2 s3 s5) hS hl.1 d0 d3 d4 d7 ?_ ?_ ?_ (by omega) (by omega) hlk (fun t hal hz hq => ?_) hS.2.2 (by omega) (by omega)
  · rcases hat w hw with h | rfl | ⟨x, rfl, h⟩
    · exact hts _ h
    · exact va_Nw.use rfl (xm_cst hG hW hcc)
    · exact va_Nw.use rfl (xm_dcl hG hW h)
  · rcases List.mem_cons.mp hw with rfl | hw
    · exact good _ hk0
    · rcases List.mem_cons.mp hw with rfl | hw
      · exact good _ hini
      · rcases hat w hw with h | rfl | ⟨x, rfl, h⟩
        · exact good _ h
        · rfl
        · rfl
  · rw [htb, hh0]
    intro x hx
    cases hx
  · omega
  · have : (st.map fun v => v.category).sum ≤ 8 := hk2
    omega
  · refine ⟨h, hX, hR.grow hz hq, Nat.le_trans hS.1 hz, fun q q1 q2 => ?_⟩
    rw [hq q (Nat.lt_of_lt_of_le q1 hS.1)]
    exact hS.2.1 q q1 q2
/-- an exception of ours is thrown on -/
def xi_athr (ci : Nat) (E : String) (X : xm_X) : xm_I := fun _ st h _ _ _ => match st with
  | .ref q :: _ => ∃ fs : List Value, h q = some (true, .inr (ci, fs)) ∧ X E q h
  | _ => False
theorem xs_athr (hG : xm_Gw g) (hΓ : xm_ok g Γ M d Q X) {ci : Nat} {rr : vw_C} (hh0 : M.2.2.2.2 = []) (hc0 : xm_cl[ci]? = some rr) (hd : decode M.2.1 pc = .ok (.athrow, 1)) : xm_Imp g Γ pc (xi_athr ci rr.1 X) := by
  obtain ⟨p, e, R, s, m, args, below, meth, c, Qf⟩ := Γ
  obtain ⟨hx, hb, hml, hr, ho, hnm, hlk, htb, hW, hB0, hRf, hRl, rfl⟩ := hΓ
  intro ls st h bc bs k hk H lsA Hp locs cells slots hl hR hS hc hs
  unfold xi_athr at H
  split at H
  · obtain ⟨fs, hq, hX⟩ := H
    obtain ⟨r', h1, hlen, cell, q1, q2, q3, q4⟩ := (hR.1 _ _ _ hq).1
    cases h1.symm.trans hc0
    exact vx_athrow hx hb hd (xm_thru hlk (by rw [htb, hh0]) hX hR hS q1 q3 (by rw [q2]; exact ((xm_Ks hG hW).1 ci _ hc0).2.1) (by omega) (by omega))
  · exact H.elim
end XS9
theorem xm_s4 : Cond.isRef (.static Bundle.tN "UNASSIGNED_STACK" Bundle.steD) ∈ flatC (Jvm.Cond.and given_1 narrow_1) := by decide +kernel
theorem xm_s5 : Cond.isRef (.static Bundle.tN "SUPPRESSED_SENTINEL" Bundle.listD) ∈ flatC (Jvm.Cond.and given_1 narrow_1) := by decide +kernel
def xm_dq (w : Cond) : Bool := match w with
  | .declares _ => true
  | _ => false
def xm_bl (ws : List Cond) (x : Cond) : Bool := ws.all (fun w => decide (w ∈ lw_all) || (decide (w = x) || (xm_dq w && decide (w ∈ lw_tbl))))
theorem xm_bl_of {ws : List Cond} {x : Cond} (h : xm_bl ws x = true) : ∀ w ∈ ws, w ∈ lw_all ∨ w = x ∨ ∃ y, w = Cond.declares y ∧ w ∈ lw_tbl := by
  intro w hw
  have := List.all_eq_true.mp h w hw
  simp only [Bool.or_eq_true, Bool.and_eq_true, decide_eq_true_eq] at this
  rcases this with h | h | ⟨h1, h2⟩
  · exact Or.inl h
  · exact Or.inr (Or.inl h)
  · refine Or.inr (Or.inr ?_)
    cases w <;> first | exact ⟨_, rfl, h2⟩ | cases h1
theorem xm_at1 : xm_bl (vx_at0 "StringTableau" 55 "java/lang/IndexOutOfBoundsException" ["java/lang/RuntimeException", "java/lang/Exception"]) (Cond.castable "java/lang/IndexOutOfBoundsException" "java/lang/IndexOutOfBoundsException") = true := by decide +kernel
theorem xm_at2 : xm_bl (vx_at0 "StringTableau" 58 "java/lang/IllegalArgumentException" ["java/lang/RuntimeException", "java/lang/Exception"]) (Cond.castable "java/lang/IllegalArgumentException" "java/lang/IllegalArgumentException") = true := by decide +kernel
theorem xm_at3 : xm_bl (vx_at0 "StringTableau" 61 "java/lang/IllegalStateException" ["java/lang/RuntimeException", "java/lang/Exception"]) (Cond.castable "java/lang/IllegalStateException" "java/lang/IllegalStateException") = true := by decide +kernel
theorem xs_bot {g : xm_G} {Γ : xm_C} {pc : Nat} : xm_Imp g Γ pc xm_bot := fun _ _ _ _ _ _ _ h => h.elim
theorem xm_ste {g : xm_G} (hG : xm_Gw g) {C n dc cls : String} (h : Cond.exactly (.static C n dc) cls ∈ flatC (Jvm.Cond.and given_1 narrow_1)) : (Term.static C n dc).eval #[] g.2.1 none [] g.2.1 = some (xm_stv g C n dc) := by
  obtain ⟨a0, -, h1, -⟩ := hG
  have h3 : (Cond.exactly (.static C n dc) cls).before #[] g.2.1 = true := flat_of_before _ h1 _ h
  obtain ⟨a, c, cA, kA, q1, -⟩ := Cond.exactly_spec (args := #[]) (first := g.2.1) (o := none) (s := g.2.1) (idx := []) h3
  unfold xm_stv
  rw [q1]
  rfl
section XSA
variable {g : xm_G} {Γ : xm_C} {M : xm_M} {d : Nat} {Q : xm_P} {X : xm_X} {pc : Nat}
/-- a method that is declared elsewhere, without code that is run -/
theorem xs_invA (hG : xm_Gw g) (hΓ : xm_ok g Γ M d Q X) {x y : MethodName} {b : ByteArray} {L : Nat} {r : Option FieldType} {d' n index : Nat} {owner : String} (hm : xm_mk (y, b, L, r, []) n) (hdd : Nat.ble (d' + 1) d = true) {ci : Nat} {rr : vw_C} (hc0 : xm_cl[ci]? = some rr) (hl0 : Cond.methodLink M.1.cls index x ∈ lw_all) (hsm : Cond.sameMethod x.cls owner x.name x.desc ∈ lw_all) (hin : Cond.instanceMethod y ∈ lw_all) (hse : Cond.selects rr.1 x y ∈ lw_all)
    (hdc : Cond.declares ⟨owner, x.name, x.desc⟩ ∈ lw_tbl) (ho0 : owner ≠ "java/lang/invoke/MethodHandle" ∧ owner ≠ "java/lang/invoke/VarHandle") (hx1 : (parseMethodDescriptor x.desc).map (fun d => d.parameters.length) = some n) (hd : decode M.2.1 pc = .ok (.invokevirtual index, 3)) : xm_Imp g Γ pc (xi_vir g ci (y, b, L, r, []) d' n (pc + 3)) := by
  obtain ⟨p, e, R, s, m, args, below, meth, c, Qf⟩ := Γ
  obtain ⟨hx, hb, hml, hr, ho, hnm, hlk, htb, hW, hB0, hRf, hRl, hQf⟩ := hΓ
  intro ls st h bc bs k hk H lsA Hp locs cells slots hl hR hS hc hs
  have hdd : d' + 1 ≤ R.frames := by rw [hRf]; exact Nat.le_of_ble_eq_true hdd
  have hRL : R.locals = 4096 + 64 * R.frames := by rw [hRf]; exact hRl
  have hts := xm_hts hG hW args
  obtain ⟨hk0, H⟩ := H
  obtain ⟨hk1, hk2⟩ := xm_stk_of hk0
  split at H
  · next b0 rest hdr =>
    obtain ⟨w, fs, mc, ms, hbb, ⟨h1, h2⟩, H⟩ := H
    have hcell := xm_cell hG hW (hR.1 _ _ _ hbb).1 (C := rr.1) ⟨rr, hc0, rfl⟩
    obtain ⟨m1, m2, m3, m4, m5⟩ := hm
    have hcw : va_CU R s args M.1.cls rr.1 owner index x y b L r [xm_cw (y, b, L, r, [])] (xm_rm d' mc ms) mc ms n :=
      va_cwA (Ts := lw_all) n hts (lw_app (fun w hw => by
        simp only [List.mem_cons, List.not_mem_nil, or_false] at hw
        rcases hw with rfl | rfl | rfl | rfl | rfl
        · exact hl0
        · exact hsm
        · exact hse
        · exact hin
        · exact m2) (lw_good (fun w hw => by rw [List.mem_singleton.mp hw]; exact m1))) rfl rfl rfl (xm_dcl hG hW hdc) ⟨ho0.1, ho0.2, hx1⟩ ⟨hdd, by have : L ≤ 45 := m3; show 8 + (L + 11) + (4096 + 64 * d') ≤ R.locals; omega⟩
    exact xm_back (va_runU (As := (st.take n).reverse) (rest := rest) (nL := c.maxLocals) ⟨hx, hb, rfl, ho, hts⟩ H.met hcw ⟨xm_blind g _ h, hcell, xm_pre hW hR _⟩ rfl (xm_tlen hk1) hl.1 (xm_split2 hdr) (lv_room (xm_sum2 hdr hk2)) hd ⟨by omega, by omega⟩) hl hS hc hs h1 h2 rfl (fun r h' hq => hk _ _ _ _ _ _ hq)
  · exact H.elim
theorem xs_ldSw (hG : xm_Gw g) (hΓ : xm_ok g Γ M d Q X) {index : Nat} {tx : String} (hq : Cond.stringRef M.1.cls index tx ∈ lw_tbl) (hd : decode M.2.1 pc = .ok (.ldc_w index, 3)) : xm_Imp g Γ pc (xi_psh (.ref (xm_sa g M.1.cls index)) (pc + 3)) := by
  obtain ⟨p, e, R, s, m, args, below, meth, c, Qf⟩ := Γ
  obtain ⟨hx, hb, -, -, ho, -, -, -, hW, -⟩ := hΓ
  intro ls st h bc bs k hk H lsA Hp locs cells slots hl hR hS hc hs
  have hZ := vk_R.warm hW (xm_sr hG (by rw [← hW.alike.findClass]; exact ho) hq)
  intro T hT X
  obtain ⟨t, a1, b1⟩ := hk _ _ _ _ _ _ H lsA Hp locs cells slots hl hR hS hc hs T hT X
  refine ⟨t, ?_, b1⟩
  obtain ⟨k, cf, i, a', hk, hcf, hcp, -, hr, hev'⟩ := Cond.stringRef_spec (args := #[]) (first := s) (o := none) (s := s) (idx := []) ho hZ.1
  have e1 : xm_sa g M.1.cls index = a' := by
    have := hZ.2.symm.trans hev'
    simpa using this
  obtain ⟨k', hk', he⟩ := X.warmed.alike.2.2 _ _ hk
  have hr' : k'.resolved[index]? = some (some (.string a')) := by
    rcases X.warmed.entry hk hk' index with h | ⟨h, -⟩
    · rw [h]; exact hr
    · rw [hr] at h; cases h
  rw [e1] at a1
  have hd' : decode c.code pc = .ok (.ldc_w index, 3) := by rw [hb]; exact hd
  jvm_step X.here [hx, hd', ldc_w.wp_string (e := e) (s := T) (f := F0 m pc lsA st) X.here.top hk' (by rw [he]; exact hcf) hcp hr']
  exact a1
end XSA
