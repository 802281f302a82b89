/-! CALLS THAT MAY THROW; overridden and inherited methods; interfaces -/
set_option maxRecDepth 100000
section XS7
variable {g : xm_G} {Γ : xm_C} {M : xm_M} {d : Nat} {Q : xm_P} {X : xm_X} {pc : Nat}
theorem xm_backX {p : Program} {e : Env} {R : Room} {s : State} {m : MethodId} {args : Array Value} {below : List Frame} {meth : Method} {c : Code} {Qf : State → Prop} {H : Heap} {locs : List Loc} {cells slots mc ms bc bs : Nat} {lsA : Array Slot} {st0 rest : List Value} {av : Array Value} {ls : List (Option Value)} {Q' : xm_P} {X' : xm_X} {n : Nat}
    (hr : vq_Run p g.1 e R s m args below meth c H locs cells slots mc ms (F0 m pc lsA st0) rest (xm_Qc g Q' av) (xm_XC g X') (xm_A g)) (hl : lv_has lsA c.maxLocals (xm_as 0 ls)) (hS : va_S (xm_A g) s.heap H locs) (hc : cells + bc ≤ R.cells) (hs : slots + bs ≤ R.slots) (h1 : mc ≤ bc) (h2 : ms ≤ bs) (hn : pc + 3 = n)
    (kk : ∀ r h', Q' r h' → xm_W g (p, e, R, s, m, args, below, meth, c, Qf) n ls (r.toList ++ rest) h' (bc - mc) (bs - ms))
    (kx : ∀ (E : String) (q : Nat) (h' : xm_H) (ce : Cell) (H1 : Heap) (locs1 : List Loc), X' E q h' → xm_R g h' H1 → va_S (xm_A g) s.heap H1 locs1 → H1[q]? = some ce → ce.vm = .none → s.vm.findClass E = some ce.cls → vx_W p g.1 e R s m args below meth c H1 locs1 (cells + mc) (slots + ms) Qf (F0 m pc lsA rest) q) : W p g.1 e R s m args below meth c H locs cells slots Qf (F0 m pc lsA st0) := by
  subst hn
  intro T hT X
  have hF : ∀ {st₀ t T' : State} {L : List Loc}, st₀.heap = H → T'.heap = t.heap → (∀ q ∈ L, xm_A g q.base) → va_F (xm_A g) st₀ t → va_S (xm_A g) s.heap T'.heap (locs ++ L) := by
    intro st₀ t T' L h0 e1 hL hz
    obtain ⟨hz, hk⟩ := hz
    rw [h0] at hz hk
    refine ⟨Nat.le_trans hS.1 (by rw [e1]; exact hz), fun q q1 q2 => by rw [e1, hk q (Nat.lt_of_lt_of_le q1 hS.1) q2]; exact hS.2.1 q q1 q2, fun q hq => ?_⟩
    rcases List.mem_append.mp hq with h | h
    · exact hS.2.2 q h
    · exact hL q h
  rcases hr T hT X with ⟨v, st₀, t, T', L, h0, X', hL, e1, e2, ⟨r, h', hv, hq, hR', hz⟩, st⟩ | ⟨q, st₀, t, T', L, E, ce, h0, X', hL, e1, e2, ⟨h', hx, hR', hz⟩, hce, hcv, hcl, st⟩
  · cases hv
    obtain ⟨t2, a1, b1⟩ := kk _ h' hq lsA T'.heap (locs ++ L) (cells + mc) (slots + ms) hl (by rw [e1]; exact hR') (hF h0 e1 hL hz) (by omega) (by omega) T' rfl X'
    exact ⟨t2, st t2 a1, b1⟩
  · obtain ⟨t2, a1, b1⟩ := kx E q h' ce T'.heap (locs ++ L) hx (by rw [e1]; exact hR') (hF h0 e1 hL hz) (by rw [e1]; exact hce) hcv hcl T' rfl X'
    exact ⟨t2, st.trans a1, b1⟩
/-- what isn't caught goes on to the caller -/
theorem xm_thru {p : Program} {e : Env} {R : Room} {s : State} {m : MethodId} {args : Array Value} {below : List Frame} {meth : Method} {c : Code} {H : Heap} {locs : List Loc} {cells slots : Nat} {lsA : Array Slot} {rest : List Value} (hlk : meth.locks = false) (htb : c.exceptionTable.toList = tableOf []) {E : String} {q : Nat} {h : xm_H} {ce : Cell} (hx : X E q h) (hR : xm_R g h H) (hS : va_S (xm_A g) s.heap H locs) (hce : H[q]? = some ce) (hcv : ce.vm = .none) (hcl : s.vm.findClass E = some ce.cls) (hc : cells ≤ R.cells) (hs : slots ≤ R.slots) :
    vx_W p g.1 e R s m args below meth c H locs cells slots (vq_MQ below (xm_Qc g Q) (xm_XC g X) args s R.cells R.slots (xm_A g)) (F0 m pc lsA rest) q := by
  refine vq_out (E := E) (ce := ce) ?_ hlk hce hcv hcl (fun t ht _ => ⟨h, hx, by rw [ht]; exact hR, hS.F ht⟩) hS.2.2 hc hs
  rw [htb]
  intro x hx
  cases hx
def xi_invX (g : xm_G) (M' : xm_M) (d' na n : Nat) (X : xm_X) : xm_I := fun ls st h bc bs k => xm_stk na st = true ∧ ∃ mc ms : Nat, (mc ≤ bc ∧ ms ≤ bs) ∧ xm_Run g M' d' (st.take na).reverse h mc ms (fun r h' => k n ls (r.toList ++ st.drop na) h' (bc - mc) (bs - ms)) X
theorem xs_invSX (hG : xm_Gw g) (hΓ : xm_ok g Γ M d Q X) {y : MethodName} {b : ByteArray} {L : Nat} {r : Option FieldType} {d' n index : Nat} (hm : xm_mk (y, b, L, r, []) n) (hdd : Nat.ble (d' + 1) d = true) (hh0 : M.2.2.2.2 = []) (hl0 : Cond.methodLink M.1.cls index y ∈ lw_all) (hst : Cond.static y ∈ lw_all) (hd : decode M.2.1 pc = .ok (.invokestatic index, 3)) : xm_Imp g Γ pc (xi_invX g (y, b, L, r, []) d' n (pc + 3) X) := by
  obtain ⟨p, e, R, s, m, args, below, meth, c, Qf⟩ := Γ
  obtain ⟨hx, hb, hml, hr, ho, hnm, hlk, htb, hW, hB0, hRf, hRl, rfl⟩ := hΓ
  intro ls st h bc bs k hk H lsA Hp locs cells slots hl hR hS hc hs
  have hdd : d' + 1 ≤ R.frames := by rw [hRf]; exact Nat.le_of_ble_eq_true hdd
  have hRL : R.locals = 4096 + 64 * R.frames := by rw [hRf]; exact hRl
  have hts := xm_hts hG hW args
  obtain ⟨hk0, mc, ms, ⟨h1, h2⟩, H⟩ := H
  obtain ⟨hk1, hk2⟩ := xm_stk_of hk0
  exact xm_backX (vq_runS (As := (st.take n).reverse) (rest := st.drop n) (nL := c.maxLocals) ⟨hx, hb, rfl, ho, hts⟩ H ⟨xm_cb hG hW hm hdd hRL hl0, hts _ hst⟩ ⟨xm_blind g _ h, xm_pre hW hR _⟩ rfl (xm_tlen hk1) hl.1 (xm_split n st) (lv_room hk2) hd ⟨by omega, by omega⟩) hl hS hc hs h1 h2 rfl (fun r h' hq => hk _ _ _ _ _ _ hq)
    (fun E q h' ce H1 locs1 hX hR1 hS1 hce hcv hcl => xm_thru hlk (by rw [htb, hh0]) hX hR1 hS1 hce hcv hcl (by omega) (by omega))
def xi_virX (g : xm_G) (ci : Nat) (M' : xm_M) (d' na n : Nat) (X : xm_X) : xm_I := fun ls st h bc bs k => xm_stk na st = true ∧ match st.drop na with
  | .ref b :: rest => ∃ (w : Bool) (fs : List Value) (mc ms : Nat), h b = some (w, .inr (ci, fs)) ∧ (mc ≤ bc ∧ ms ≤ bs) ∧ xm_Run g M' d' (.ref b :: (st.take na).reverse) h mc ms (fun r h' => k n ls (r.toList ++ rest) h' (bc - mc) (bs - ms)) X
  | _ => False
theorem xs_invVX (hG : xm_Gw g) (hΓ : xm_ok g Γ M d Q X) {y : MethodName} {b : ByteArray} {L : Nat} {r : Option FieldType} {d' n index : Nat} (hm : xm_mk (y, b, L, r, []) n) (hdd : Nat.ble (d' + 1) d = true) (hh0 : M.2.2.2.2 = []) {ci : Nat} {rr : vw_C} (hc0 : xm_cl[ci]? = some rr) (hl0 : Cond.methodLink M.1.cls index y ∈ lw_all) (hin : Cond.instanceMethod y ∈ lw_all) (hse : Cond.selects rr.1 y y ∈ lw_all) (hd : decode M.2.1 pc = .ok (.invokevirtual index, 3)) : xm_Imp g Γ pc (xi_virX g ci (y, b, L, r, []) d' n (pc + 3) X) := by
  obtain ⟨p, e, R, s, m, args, below, meth, c, Qf⟩ := Γ
  obtain ⟨hx, hb, hml, hr, ho, hnm, hlk, htb, hW, hB0, hRf, hRl, rfl⟩ := hΓ
  intro ls st h bc bs k hk H lsA Hp locs cells slots hl hR hS hc hs
  have hdd : d' + 1 ≤ R.frames := by rw [hRf]; exact Nat.le_of_ble_eq_true hdd
  have hRL : R.locals = 4096 + 64 * R.frames := by rw [hRf]; exact hRl
  have hts := xm_hts hG hW args
  obtain ⟨hk0, H⟩ := H
  obtain ⟨hk1, hk2⟩ := xm_stk_of hk0
  split at H
  · next b0 rest hdr =>
    obtain ⟨w, fs, mc, ms, hbb, ⟨h1, h2⟩, H⟩ := H
    have hcell := xm_cell hG hW (hR.1 _ _ _ hbb).1 (C := rr.1) ⟨rr, hc0, rfl⟩
    exact xm_backX (vq_runV (As := (st.take n).reverse) (rest := rest) (nL := c.maxLocals) ⟨hx, hb, rfl, ho, hts⟩ H ⟨xm_cb hG hW hm hdd hRL hl0, hts _ hin, hts _ hse⟩ ⟨xm_blind g _ h, hcell, xm_pre hW hR _⟩ rfl (xm_tlen hk1) hl.1 (xm_split2 hdr) (lv_room (xm_sum2 hdr hk2)) hd ⟨by omega, by omega⟩) hl hS hc hs h1 h2 rfl (fun r h' hq => hk _ _ _ _ _ _ hq)
      (fun E q h' ce H1 locs1 hX hR1 hS1 hce hcv hcl => xm_thru hlk (by rw [htb, hh0]) hX hR1 hS1 hce hcv hcl (by omega) (by omega))
  · exact H.elim
/-! interfaces -/
theorem xm_Fw {s : State} (hG : xm_Gw g) (hW : g.2.1.WarmedH s.vm) {C : String} {x y : MethodName} (hx : x.cls ≠ "java/lang/invoke/MethodHandle" ∧ x.cls ≠ "java/lang/invoke/VarHandle") (h1 : Cond.declares x ∈ lw_tbl) (h2 : Cond.interfaceMethod x.cls x.cls x.name x.desc ∈ lw_tbl) (h3 : Cond.publicMethod y ∈ lw_tbl) (h4 : Cond.unhidden C x.name x.desc ∈ lw_tbl) (h5 : Cond.castable C x.cls ∈ lw_tbl) : va_Fw C x y s := by
  obtain ⟨a0, h0, -⟩ := hG
  exact va_Fw.moved hx hW.alike (va_Fw.of (h0 _ h1) (h0 _ h2) (h0 _ h3) (h0 _ h4) (h0 _ h5))
theorem xs_invF (hG : xm_Gw g) (hΓ : xm_ok g Γ M d Q X) {x y : MethodName} {b : ByteArray} {L : Nat} {r : Option FieldType} {d' n index count : Nat} (hm : xm_mk (y, b, L, r, []) n) (hdd : Nat.ble (d' + 1) d = true) {ci : Nat} {rr : vw_C} (hc0 : xm_cl[ci]? = some rr) (hl0 : Cond.methodLink M.1.cls index x ∈ lw_all) (hin : Cond.instanceMethod y ∈ lw_all) (hse : Cond.selects rr.1 x y ∈ lw_all)
    (hx0 : x.cls ≠ "java/lang/invoke/MethodHandle" ∧ x.cls ≠ "java/lang/invoke/VarHandle") (hx1 : (parseMethodDescriptor x.desc).map (fun d => d.parameters.length) = some n) (w1 : Cond.declares x ∈ lw_tbl) (w2 : Cond.interfaceMethod x.cls x.cls x.name x.desc ∈ lw_tbl) (w3 : Cond.publicMethod y ∈ lw_tbl) (w4 : Cond.unhidden rr.1 x.name x.desc ∈ lw_tbl) (w5 : Cond.castable rr.1 x.cls ∈ lw_tbl) (hd : decode M.2.1 pc = .ok (.invokeinterface index count, 5)) : xm_Imp g Γ pc (xi_vir g ci (y, b, L, r, []) d' n (pc + 5)) := by
  obtain ⟨p, e, R, s, m, args, below, meth, c, Qf⟩ := Γ
  obtain ⟨hx, hb, hml, hr, ho, hnm, hlk, htb, hW, hB0, hRf, hRl, hQf⟩ := hΓ
  intro ls st h bc bs k hk H lsA Hp locs cells slots hl hR hS hc hs
  have hdd : d' + 1 ≤ R.frames := by rw [hRf]; exact Nat.le_of_ble_eq_true hdd
  have hRL : R.locals = 4096 + 64 * R.frames := by rw [hRf]; exact hRl
  have hts := xm_hts hG hW args
  obtain ⟨hk0, H⟩ := H
  obtain ⟨hk1, hk2⟩ := xm_stk_of hk0
  split at H
  · next b0 rest hdr =>
    obtain ⟨w, fs, mc, ms, hbb, ⟨h1, h2⟩, H⟩ := H
    have hK := xm_Ks hG hW
    have hcell := xm_cell hG hW (hR.1 _ _ _ hbb).1 (C := rr.1) ⟨rr, hc0, rfl⟩
    obtain ⟨m1, m2, m3, m4, m5⟩ := hm
    have hcw : va_CI R s args M.1.cls rr.1 index x y b L r [xm_cw (y, b, L, r, [])] (xm_rm d' mc ms) mc ms n :=
      va_cwF (Ts := lw_all) n hts (lw_app (fun w hw => by
        simp only [List.mem_cons, List.not_mem_nil, or_false] at hw
        rcases hw with rfl | rfl | rfl | rfl
        · exact hl0
        · exact hse
        · exact hin
        · exact m2) (lw_good (fun w hw => by rw [List.mem_singleton.mp hw]; exact m1))) rfl rfl rfl (xm_Fw hG hW hx0 w1 w2 w3 w4 w5) ⟨hx0.1, hx0.2, hx1⟩ ⟨hdd, by have : L ≤ 45 := m3; show 8 + (L + 11) + (4096 + 64 * d') ≤ R.locals; omega⟩
    exact xm_back5 (va_runF (As := (st.take n).reverse) (rest := rest) (nL := c.maxLocals) (hK.1 ci _ hc0).2 ⟨hx, hb, rfl, ho, hts⟩ H.met hcw ⟨xm_blind g _ h, hcell, xm_pre hW hR _⟩ rfl (xm_tlen hk1) hl.1 (xm_split2 hdr) (lv_room (xm_sum2 hdr hk2)) hd ⟨by omega, by omega⟩) hl hS hc hs h1 h2 rfl (fun r h' hq => hk _ _ _ _ _ _ hq)
  · exact H.elim
/-! a method that the receiver's class inherits or overrides -/
theorem xs_invU (hG : xm_Gw g) (hΓ : xm_ok g Γ M d Q X) {x y : MethodName} {b : ByteArray} {L : Nat} {r : Option FieldType} {d' n index : Nat} {owner : String} (hm : xm_mk (y, b, L, r, []) n) (hdd : Nat.ble (d' + 1) d = true) {ci : Nat} {rr : vw_C} (hc0 : xm_cl[ci]? = some rr) (hl0 : Cond.methodLink M.1.cls index x ∈ lw_all) (hsm : Cond.sameMethod x.cls owner x.name x.desc ∈ lw_all) (hin : Cond.instanceMethod y ∈ lw_all) (hse : Cond.selects rr.1 x y ∈ lw_all)
    (hyx : y = ⟨owner, x.name, x.desc⟩) (ho0 : owner ≠ "java/lang/invoke/MethodHandle" ∧ owner ≠ "java/lang/invoke/VarHandle") (hx1 : (parseMethodDescriptor x.desc).map (fun d => d.parameters.length) = some n) (hd : decode M.2.1 pc = .ok (.invokevirtual index, 3)) : xm_Imp g Γ pc (xi_vir g ci (y, b, L, r, []) d' n (pc + 3)) := by
  obtain ⟨p, e, R, s, m, args, below, meth, c, Qf⟩ := Γ
  obtain ⟨hx, hb, hml, hr, ho, hnm, hlk, htb, hW, hB0, hRf, hRl, hQf⟩ := hΓ
  intro ls st h bc bs k hk H lsA Hp locs cells slots hl hR hS hc hs
  have hdd : d' + 1 ≤ R.frames := by rw [hRf]; exact Nat.le_of_ble_eq_true hdd
  have hRL : R.locals = 4096 + 64 * R.frames := by rw [hRf]; exact hRl
  have hts := xm_hts hG hW args
  obtain ⟨hk0, H⟩ := H
  obtain ⟨hk1, hk2⟩ := xm_stk_of hk0
  split at H
  · next b0 rest hdr =>
    obtain ⟨w, fs, mc, ms, hbb, ⟨h1, h2⟩, H⟩ := H
    have hcell := xm_cell hG hW (hR.1 _ _ _ hbb).1 (C := rr.1) ⟨rr, hc0, rfl⟩
    obtain ⟨m1, m2, m3, m4, m5⟩ := hm
    have hcw : va_CU R s args M.1.cls rr.1 owner index x y b L r [xm_cw (y, b, L, r, [])] (xm_rm d' mc ms) mc ms n :=
      va_cwU (Ts := lw_all) n hts (lw_app (fun w hw => by
        simp only [List.mem_cons, List.not_mem_nil, or_false] at hw
        rcases hw with rfl | rfl | rfl | rfl | rfl
        · exact hl0
        · exact hsm
        · exact hse
        · exact hin
        · exact m2) (lw_good (fun w hw => by rw [List.mem_singleton.mp hw]; exact m1))) rfl rfl rfl hyx ⟨ho0.1, ho0.2, hx1⟩ ⟨hdd, by have : L ≤ 45 := m3; show 8 + (L + 11) + (4096 + 64 * d') ≤ R.locals; omega⟩
    exact xm_back (va_runU (As := (st.take n).reverse) (rest := rest) (nL := c.maxLocals) ⟨hx, hb, rfl, ho, hts⟩ H.met hcw ⟨xm_blind g _ h, hcell, xm_pre hW hR _⟩ rfl (xm_tlen hk1) hl.1 (xm_split2 hdr) (lv_room (xm_sum2 hdr hk2)) hd ⟨by omega, by omega⟩) hl hS hc hs h1 h2 rfl (fun r h' hq => hk _ _ _ _ _ _ hq)
  · exact H.elim
theorem xs_invO (hG : xm_Gw g) (hΓ : xm_ok g Γ M d Q X) {x y : MethodName} {b : ByteArray} {L : Nat} {r : Option FieldType} {d' n index : Nat} {owner : String} (hm : xm_mk (y, b, L, r, []) n) (hdd : Nat.ble (d' + 1) d = true) {ci : Nat} {rr : vw_C} (hc0 : xm_cl[ci]? = some rr) (hl0 : Cond.methodLink M.1.cls index x ∈ lw_all) (hsm : Cond.sameMethod x.cls owner x.name x.desc ∈ lw_all) (hi0 : Cond.instanceMethod ⟨owner, x.name, x.desc⟩ ∈ lw_all) (hin : Cond.instanceMethod y ∈ lw_all) (hse : Cond.selects rr.1 x y ∈ lw_all)
    {b1 : ByteArray} {L1 : Nat} {r1 : Option FieldType} (hc1 : Cond.code ⟨owner, x.name, x.desc⟩ b1 L1 r1 ∈ lw_all) (ho0 : owner ≠ "java/lang/invoke/MethodHandle" ∧ owner ≠ "java/lang/invoke/VarHandle") (hx1 : (parseMethodDescriptor x.desc).map (fun d => d.parameters.length) = some n) (hd : decode M.2.1 pc = .ok (.invokevirtual index, 3)) : xm_Imp g Γ pc (xi_vir g ci (y, b, L, r, []) d' n (pc + 3)) := by
  obtain ⟨p, e, R, s, m, args, below, meth, c, Qf⟩ := Γ
  obtain ⟨hx, hb, hml, hr, ho, hnm, hlk, htb, hW, hB0, hRf, hRl, hQf⟩ := hΓ
  intro ls st h bc bs k hk H lsA Hp locs cells slots hl hR hS hc hs
  have hdd : d' + 1 ≤ R.frames := by rw [hRf]; exact Nat.le_of_ble_eq_true hdd
  have hRL : R.locals = 4096 + 64 * R.frames := by rw [hRf]; exact hRl
  have hts := xm_hts hG hW args
  obtain ⟨hk0, H⟩ := H
  obtain ⟨hk1, hk2⟩ := xm_stk_of hk0
  split at H
  · next b0 rest hdr =>
    obtain ⟨w, fs, mc, ms, hbb, ⟨h1, h2⟩, H⟩ := H
    have hcell := xm_cell hG hW (hR.1 _ _ _ hbb).1 (C := rr.1) ⟨rr, hc0, rfl⟩
    obtain ⟨m1, m2, m3, m4, m5⟩ := hm
    have hcw : va_CU R s args M.1.cls rr.1 owner index x y b L r [xm_cw (y, b, L, r, [])] (xm_rm d' mc ms) mc ms n :=
      va_cwO (Ts := lw_all) n hts (lw_app (fun w hw => by
        simp only [List.mem_cons, List.not_mem_nil, or_false] at hw
        rcases hw with rfl | rfl | rfl | rfl | rfl | rfl
        · exact hl0
        · exact hsm
        · exact hi0
        · exact hse
        · exact hin
        · exact m2) (lw_good (fun w hw => by rw [List.mem_singleton.mp hw]; exact m1))) rfl rfl rfl hc1 ⟨ho0.1, ho0.2, hx1⟩ ⟨hdd, by have : L ≤ 45 := m3; show 8 + (L + 11) + (4096 + 64 * d') ≤ R.locals; omega⟩
    exact xm_back (va_runU (As := (st.take n).reverse) (rest := rest) (nL := c.maxLocals) ⟨hx, hb, rfl, ho, hts⟩ H.met hcw ⟨xm_blind g _ h, hcell, xm_pre hW hR _⟩ rfl (xm_tlen hk1) hl.1 (xm_split2 hdr) (lv_room (xm_sum2 hdr hk2)) hd ⟨by omega, by omega⟩) hl hS hc hs h1 h2 rfl (fun r h' hq => hk _ _ _ _ _ _ hq)
  · exact H.elim
end XS7
