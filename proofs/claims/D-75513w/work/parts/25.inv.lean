/-! INSTRUCTIONS: calls (printed by gen/mkcall.py) -/
set_option maxRecDepth 100000
/-- what the tables say of a method with n parameters -/
def xm_mk (M : xm_M) (n : Nat) : Prop := xm_cw M ∈ lw_all ∧ Cond.initialized M.1.cls ∈ lw_all ∧ M.2.2.1 ≤ 45 ∧ (M.1.cls ≠ "java/lang/invoke/MethodHandle" ∧ M.1.cls ≠ "java/lang/invoke/VarHandle") ∧ (parseMethodDescriptor M.1.desc).map (fun d => d.parameters.length) = some n
/-- the stack has so many values, and what lies below them is shallow -/
def xm_stk (na : Nat) (st : List Value) : Bool := Nat.ble na st.length && Nat.ble (((st.drop na).map fun v => v.category).sum) 8
theorem xm_stk_of {na : Nat} {st : List Value} (h : xm_stk na st = true) : na ≤ st.length ∧ ((st.drop na).map fun v => v.category).sum ≤ 8 := by
  simp only [xm_stk, Bool.and_eq_true] at h
  exact ⟨Nat.le_of_ble_eq_true h.1, Nat.le_of_ble_eq_true h.2⟩
theorem xm_par {M : xm_M} {n : Nat} (h : (parseMethodDescriptor M.1.desc).map (fun d => d.parameters.length) = some n) (sig : MethodDescriptor) (hs : parseMethodDescriptor M.1.desc = some sig) : n = sig.parameters.length := by
  rw [hs] at h
  exact (Option.some.inj h).symm
theorem xm_blind (g : xm_G) (av : List Value) (h : xm_H) : FrameBlind (xm_Pc g av h) := by
  intro a U gg mk hP
  obtain ⟨e, hW, hR⟩ := hP
  exact ⟨e, hW, hR⟩
theorem xm_pre {g : xm_G} {s : State} (hW : g.2.1.WarmedH s.vm) {h : xm_H} {H : Heap} (hR : xm_R g h H) (av : List Value) : ∀ U : State, U.heap = H → s.WarmedH U.vm → xm_Pc g av h av.toArray U := by
  intro U hU hWU
  exact ⟨rfl, State.WarmedH.trans hW hWU, by rw [hU]; exact hR⟩
section XS5
variable {g : xm_G} {Γ : xm_C} {M : xm_M} {d : Nat} {Q : xm_P} {X : xm_X} {pc : Nat}
theorem xm_back {p : Program} {e : Env} {R : Room} {s : State} {m : MethodId} {args : Array Value} {below : List Frame} {meth : Method} {c : Code} {Qf : State → Prop} {H : Heap} {locs : List Loc} {cells slots mc ms bc bs : Nat} {lsA : Array Slot} {st0 rest : List Value} {av : Array Value} {ls : List (Option Value)} {Q' : xm_P} {n : Nat}
    (hr : va_Run p g.1 e R s m args below meth c H locs cells slots mc ms (F0 m pc lsA st0) rest (xm_Qc g Q' av) (xm_A g)) (hl : lv_has lsA c.maxLocals (xm_as 0 ls)) (hS : va_S (xm_A g) s.heap H locs) (hc : cells + bc ≤ R.cells) (hs : slots + bs ≤ R.slots) (h1 : mc ≤ bc) (h2 : ms ≤ bs) (hn : pc + 3 = n)
    (kk : ∀ r h', Q' r h' → xm_W g (p, e, R, s, m, args, below, meth, c, Qf) n ls (r.toList ++ rest) h' (bc - mc) (bs - ms)) : W p g.1 e R s m args below meth c H locs cells slots Qf (F0 m pc lsA st0) := by
  subst hn
  intro T hT X
  obtain ⟨v, st₀, t, T', L, h0, X', hL, e1, e2, ⟨r, h', hv, hq, hR', hz, hk⟩, st⟩ := hr T hT X
  cases hv
  rw [h0] at hz hk
  obtain ⟨t2, a1, b1⟩ := kk _ h' hq lsA T'.heap (locs ++ L) (cells + mc) (slots + ms) hl (by rw [e1]; exact hR') ⟨Nat.le_trans hS.1 (by rw [e1]; exact hz), fun q q1 q2 => by rw [e1, hk q (Nat.lt_of_lt_of_le q1 hS.1) q2]; exact hS.2.1 q q1 q2, fun q hq => by
      rcases List.mem_append.mp hq with h | h
      · exact hS.2.2 q h
      · exact hL q h⟩ (by omega) (by omega) T' rfl X'
  exact ⟨t2, st t2 a1, b1⟩
theorem xm_back5 {p : Program} {e : Env} {R : Room} {s : State} {m : MethodId} {args : Array Value} {below : List Frame} {meth : Method} {c : Code} {Qf : State → Prop} {H : Heap} {locs : List Loc} {cells slots mc ms bc bs : Nat} {lsA : Array Slot} {st0 rest : List Value} {av : Array Value} {ls : List (Option Value)} {Q' : xm_P} {n : Nat}
    (hr : va_Run5 p g.1 e R s m args below meth c H locs cells slots mc ms (F0 m pc lsA st0) rest (xm_Qc g Q' av) (xm_A g)) (hl : lv_has lsA c.maxLocals (xm_as 0 ls)) (hS : va_S (xm_A g) s.heap H locs) (hc : cells + bc ≤ R.cells) (hs : slots + bs ≤ R.slots) (h1 : mc ≤ bc) (h2 : ms ≤ bs) (hn : pc + 5 = n)
    (kk : ∀ r h', Q' r h' → xm_W g (p, e, R, s, m, args, below, meth, c, Qf) n ls (r.toList ++ rest) h' (bc - mc) (bs - ms)) : W p g.1 e R s m args below meth c H locs cells slots Qf (F0 m pc lsA st0) := by
  subst hn
  intro T hT X
  obtain ⟨v, st₀, t, T', L, h0, X', hL, e1, e2, ⟨r, h', hv, hq, hR', hz, hk⟩, st⟩ := hr T hT X
  cases hv
  rw [h0] at hz hk
  obtain ⟨t2, a1, b1⟩ := kk _ h' hq lsA T'.heap (locs ++ L) (cells + mc) (slots + ms) hl (by rw [e1]; exact hR') ⟨Nat.le_trans hS.1 (by rw [e1]; exact hz), fun q q1 q2 => by rw [e1, hk q (Nat.lt_of_lt_of_le q1 hS.1) q2]; exact hS.2.1 q q1 q2, fun q hq => by
      rcases List.mem_append.mp hq with h | h
      · exact hS.2.2 q h
      · exact hL q h⟩ (by omega) (by omega) T' rfl X'
  exact ⟨t2, st t2 a1, b1⟩
theorem xm_cb (hG : xm_Gw g) {s : State} (hW : g.2.1.WarmedH s.vm) {R : Room} {args : Array Value} {own : String} {index : Nat} {y : MethodName} {b : ByteArray} {L : Nat} {r : Option FieldType} {d' n mc ms : Nat} (hm : xm_mk (y, b, L, r, []) n) (hf : d' + 1 ≤ R.frames) (hlo : R.locals = 4096 + 64 * R.frames) (hl : Cond.methodLink own index y ∈ lw_all) : CallB R s args own index y b L r [xm_cw (y, b, L, r, [])] (xm_rm d' mc ms) mc ms n := by
  have hts := xm_hts hG hW args
  obtain ⟨h1, h2, h3, h4, h5⟩ := hm
  refine ⟨rfl, rfl, hf, ?_, ?_, List.mem_singleton.mpr rfl, hts _ h1, hts _ h2, h4, fun sig hs => xm_par (M := (y, b, L, r, [])) h5 sig hs, hts _ hl⟩
  · have : L ≤ 45 := h3
    show 8 + (L + 11) + (4096 + 64 * d') ≤ R.locals
    omega
  · intro w hw a' U hU
    rw [List.mem_singleton.mp hw]
    exact xm_hts hG (State.WarmedH.trans hW hU) a' _ h1
/-- static -/
def xi_inv (g : xm_G) (M' : xm_M) (d' na n : Nat) : xm_I := fun ls st h bc bs k => xm_stk na st = true ∧ ∃ mc ms : Nat, (mc ≤ bc ∧ ms ≤ bs) ∧ xm_Run g M' d' (st.take na).reverse h mc ms (fun r h' => k n ls (r.toList ++ st.drop na) h' (bc - mc) (bs - ms)) xm_no
theorem xm_split (na : Nat) (st : List Value) : st = (st.take na).reverse.reverse ++ st.drop na := by
  rw [List.reverse_reverse, List.take_append_drop]
theorem xm_tlen {na : Nat} {st : List Value} (h : na ≤ st.length) : (st.take na).reverse.length = na := by
  rw [List.length_reverse, List.length_take]
  omega
theorem xm_cn (hG : xm_Gw g) {s : State} (hW : g.2.1.WarmedH s.vm) {R : Room} {args : Array Value} {own host : String} {index : Nat} {y : MethodName} {b : ByteArray} {L : Nat} {r : Option FieldType} {d' n mc ms : Nat} (hm : xm_mk (y, b, L, r, []) n) (hf : d' + 1 ≤ R.frames) (hlo : R.locals = 4096 + 64 * R.frames) (hl : Cond.methodLinkNest own index y host ∈ lw_tbl) : va_CN R s args own index y host b L r [xm_cw (y, b, L, r, [])] (xm_rm d' mc ms) mc ms n := by
  have hts := xm_hts hG hW args
  obtain ⟨h1, h2, h3, h4, h5⟩ := hm
  have hLL : L ≤ 45 := h3
  exact va_cnB (Ts := lw_all) n hts (lw_good (fun w hw => by rw [List.mem_singleton.mp hw]; exact h1)) rfl rfl rfl (xm_nestM hG hW hl) (hts _ h2) ⟨h4.1, h4.2, h5⟩ ⟨hf, by show 8 + (L + 11) + (4096 + 64 * d') ≤ R.locals; omega⟩
theorem xs_invS (hG : xm_Gw g) (hΓ : xm_ok g Γ M d Q X) {y : MethodName} {b : ByteArray} {L : Nat} {r : Option FieldType} {d' n index : Nat} (hm : xm_mk (y, b, L, r, []) n) (hdd : Nat.ble (d' + 1) d = true) (hl0 : Cond.methodLink M.1.cls index y ∈ lw_all) (hst : Cond.static y ∈ lw_all) (hd : decode M.2.1 pc = .ok (.invokestatic index, 3)) : xm_Imp g Γ pc (xi_inv g (y, b, L, r, []) d' n (pc + 3)) := by
  obtain ⟨p, e, R, s, m, args, below, meth, c, Qf⟩ := Γ
  obtain ⟨hx, hb, hml, hr, ho, hnm, hlk, htb, hW, hB0, hRf, hRl, hQf⟩ := hΓ
  intro ls st h bc bs k hk H lsA Hp locs cells slots hl hR hS hc hs
  have hdd : d' + 1 ≤ R.frames := by rw [hRf]; exact Nat.le_of_ble_eq_true hdd
  have hRL : R.locals = 4096 + 64 * R.frames := by rw [hRf]; exact hRl
  have hts := xm_hts hG hW args
  obtain ⟨hk0, mc, ms, ⟨h1, h2⟩, H⟩ := H
  obtain ⟨hk1, hk2⟩ := xm_stk_of hk0
  exact xm_back (va_runS (As := (st.take n).reverse) (rest := st.drop n) (nL := c.maxLocals) ⟨hx, hb, rfl, ho, hts⟩ H.met ⟨xm_cb hG hW hm hdd hRL hl0, hts _ hst⟩ ⟨xm_blind g _ h, xm_pre hW hR _⟩ rfl (xm_tlen hk1) hl.1 (xm_split n st) (lv_room hk2) hd ⟨by omega, by omega⟩) hl hS hc hs h1 h2 rfl (fun r h' hq => hk _ _ _ _ _ _ hq)
theorem xs_invSN (hG : xm_Gw g) (hΓ : xm_ok g Γ M d Q X) {y : MethodName} {b : ByteArray} {L : Nat} {r : Option FieldType} {d' n index : Nat} (hm : xm_mk (y, b, L, r, []) n) (hdd : Nat.ble (d' + 1) d = true) {host : String} (hl0 : Cond.methodLinkNest M.1.cls index y host ∈ lw_tbl) (hst : Cond.static y ∈ lw_all) (hd : decode M.2.1 pc = .ok (.invokestatic index, 3)) : xm_Imp g Γ pc (xi_inv g (y, b, L, r, []) d' n (pc + 3)) := by
  obtain ⟨p, e, R, s, m, args, below, meth, c, Qf⟩ := Γ
  obtain ⟨hx, hb, hml, hr, ho, hnm, hlk, htb, hW, hB0, hRf, hRl, hQf⟩ := hΓ
  intro ls st h bc bs k hk H lsA Hp locs cells slots hl hR hS hc hs
  have hdd : d' + 1 ≤ R.frames := by rw [hRf]; exact Nat.le_of_ble_eq_true hdd
  have hRL : R.locals = 4096 + 64 * R.frames := by rw [hRf]; exact hRl
  have hts := xm_hts hG hW args
  obtain ⟨hk0, mc, ms, ⟨h1, h2⟩, H⟩ := H
  obtain ⟨hk1, hk2⟩ := xm_stk_of hk0
  exact xm_back (va_runSN (As := (st.take n).reverse) (rest := st.drop n) (nL := c.maxLocals) ⟨hx, hb, rfl, ho, hts⟩ H.met ⟨xm_cn hG hW hm hdd hRL hl0, hts _ hst, trivial⟩ ⟨xm_blind g _ h, xm_pre hW hR _⟩ rfl (xm_tlen hk1) hl.1 (xm_split n st) (lv_room hk2) hd ⟨by omega, by omega⟩) hl hS hc hs h1 h2 rfl (fun r h' hq => hk _ _ _ _ _ _ hq)
def xi_spe (g : xm_G) (M' : xm_M) (d' na n : Nat) : xm_I := fun ls st h bc bs k => xm_stk na st = true ∧ match st.drop na with
  | .ref b :: rest => ∃ mc ms : Nat, (mc ≤ bc ∧ ms ≤ bs) ∧ xm_Run g M' d' (.ref b :: (st.take na).reverse) h mc ms (fun r h' => k n ls (r.toList ++ rest) h' (bc - mc) (bs - ms)) xm_no
  | _ => False
def xi_vir (g : xm_G) (ci : Nat) (M' : xm_M) (d' na n : Nat) : xm_I := fun ls st h bc bs k => xm_stk na st = true ∧ match st.drop na with
  | .ref b :: rest => ∃ (w : Bool) (fs : List Value) (mc ms : Nat), h b = some (w, .inr (ci, fs)) ∧ (mc ≤ bc ∧ ms ≤ bs) ∧ xm_Run g M' d' (.ref b :: (st.take na).reverse) h mc ms (fun r h' => k n ls (r.toList ++ rest) h' (bc - mc) (bs - ms)) xm_no
  | _ => False
theorem xm_split2 {na : Nat} {st rest : List Value} {v : Value} (h : st.drop na = v :: rest) : st = (st.take na).reverse.reverse ++ v :: rest := by
  rw [List.reverse_reverse, ← h, List.take_append_drop]
theorem xm_sum2 {na : Nat} {st rest : List Value} {v : Value} (h : st.drop na = v :: rest) (hk : ((st.drop na).map fun v => v.category).sum ≤ 8) : (rest.map fun v => v.category).sum ≤ 8 := by
  rw [h] at hk
  simp only [List.map_cons, List.sum_cons] at hk
  omega
theorem xs_invI (hG : xm_Gw g) (hΓ : xm_ok g Γ M d Q X) {y : MethodName} {b : ByteArray} {L : Nat} {d' n index : Nat} (hm : xm_mk (y, b, L, none, []) n) (hdd : Nat.ble (d' + 1) d = true) (hl0 : Cond.methodLink M.1.cls index y ∈ lw_all) (hin : Cond.instanceMethod y ∈ lw_all) (hy1 : y.name = "<init>") (hd : decode M.2.1 pc = .ok (.invokespecial index, 3)) : xm_Imp g Γ pc (xi_spe g (y, b, L, none, []) d' n (pc + 3)) := by
  obtain ⟨p, e, R, s, m, args, below, meth, c, Qf⟩ := Γ
  obtain ⟨hx, hb, hml, hr, ho, hnm, hlk, htb, hW, hB0, hRf, hRl, hQf⟩ := hΓ
  intro ls st h bc bs k hk H lsA Hp locs cells slots hl hR hS hc hs
  have hdd : d' + 1 ≤ R.frames := by rw [hRf]; exact Nat.le_of_ble_eq_true hdd
  have hRL : R.locals = 4096 + 64 * R.frames := by rw [hRf]; exact hRl
  have hts := xm_hts hG hW args
  obtain ⟨hk0, H⟩ := H
  obtain ⟨hk1, hk2⟩ := xm_stk_of hk0
  split at H
  · next b0 rest hdr =>
    obtain ⟨mc, ms, ⟨h1, h2⟩, H⟩ := H
    exact xm_back (va_runI (As := (st.take n).reverse) (rest := rest) (nL := c.maxLocals) ⟨hx, hb, rfl, ho, hts⟩ H.met ⟨xm_cb hG hW hm hdd hRL hl0, hy1, hts _ hin⟩ ⟨xm_blind g _ h, xm_pre hW hR _⟩ rfl (xm_tlen hk1) hl.1 (xm_split2 hdr) (lv_room (xm_sum2 hdr hk2)) hd ⟨by omega, by omega⟩) hl hS hc hs h1 h2 rfl (fun r h' hq => hk _ _ _ _ _ _ hq)
  · exact H.elim
theorem xs_invIN (hG : xm_Gw g) (hΓ : xm_ok g Γ M d Q X) {y : MethodName} {b : ByteArray} {L : Nat} {d' n index : Nat} (hm : xm_mk (y, b, L, none, []) n) (hdd : Nat.ble (d' + 1) d = true) {host : String} (hl0 : Cond.methodLinkNest M.1.cls index y host ∈ lw_tbl) (hin : Cond.instanceMethod y ∈ lw_all) (hy1 : y.name = "<init>") (hd : decode M.2.1 pc = .ok (.invokespecial index, 3)) : xm_Imp g Γ pc (xi_spe g (y, b, L, none, []) d' n (pc + 3)) := by
  obtain ⟨p, e, R, s, m, args, below, meth, c, Qf⟩ := Γ
  obtain ⟨hx, hb, hml, hr, ho, hnm, hlk, htb, hW, hB0, hRf, hRl, hQf⟩ := hΓ
  intro ls st h bc bs k hk H lsA Hp locs cells slots hl hR hS hc hs
  have hdd : d' + 1 ≤ R.frames := by rw [hRf]; exact Nat.le_of_ble_eq_true hdd
  have hRL : R.locals = 4096 + 64 * R.frames := by rw [hRf]; exact hRl
  have hts := xm_hts hG hW args
  obtain ⟨hk0, H⟩ := H
  obtain ⟨hk1, hk2⟩ := xm_stk_of hk0
  split at H
  · next b0 rest hdr =>
    obtain ⟨mc, ms, ⟨h1, h2⟩, H⟩ := H
    exact xm_back (va_runIN (As := (st.take n).reverse) (rest := rest) (nL := c.maxLocals) ⟨hx, hb, rfl, ho, hts⟩ H.met ⟨xm_cn hG hW hm hdd hRL hl0, hy1, hts _ hin⟩ ⟨xm_blind g _ h, xm_pre hW hR _⟩ rfl (xm_tlen hk1) hl.1 (xm_split2 hdr) (lv_room (xm_sum2 hdr hk2)) hd ⟨by omega, by omega⟩) hl hS hc hs h1 h2 rfl (fun r h' hq => hk _ _ _ _ _ _ hq)
  · exact H.elim
theorem xs_invV (hG : xm_Gw g) (hΓ : xm_ok g Γ M d Q X) {y : MethodName} {b : ByteArray} {L : Nat} {r : Option FieldType} {d' n index : Nat} (hm : xm_mk (y, b, L, r, []) n) (hdd : Nat.ble (d' + 1) d = true) {ci : Nat} {rr : vw_C} (hc0 : xm_cl[ci]? = some rr) (hl0 : Cond.methodLink M.1.cls index y ∈ lw_all) (hin : Cond.instanceMethod y ∈ lw_all) (hse : Cond.selects rr.1 y y ∈ lw_all) (hd : decode M.2.1 pc = .ok (.invokevirtual index, 3)) : xm_Imp g Γ pc (xi_vir g ci (y, b, L, r, []) d' n (pc + 3)) := by
  obtain ⟨p, e, R, s, m, args, below, meth, c, Qf⟩ := Γ
  obtain ⟨hx, hb, hml, hr, ho, hnm, hlk, htb, hW, hB0, hRf, hRl, hQf⟩ := hΓ
  intro ls st h bc bs k hk H lsA Hp locs cells slots hl hR hS hc hs
  have hdd : d' + 1 ≤ R.frames := by rw [hRf]; exact Nat.le_of_ble_eq_true hdd
  have hRL : R.locals = 4096 + 64 * R.frames := by rw [hRf]; exact hRl
  have hts := xm_hts hG hW args
  obtain ⟨hk0, H⟩ := H
  obtain ⟨hk1, hk2⟩ := xm_stk_of hk0
  split at H
  · next b0 rest hdr =>
    obtain ⟨w, fs, mc, ms, hbb, ⟨h1, h2⟩, H⟩ := H
    have hcell := xm_cell hG hW (hR.1 _ _ _ hbb).1 (C := rr.1) ⟨rr, hc0, rfl⟩
    exact xm_back (va_runV (As := (st.take n).reverse) (rest := rest) (nL := c.maxLocals) ⟨hx, hb, rfl, ho, hts⟩ H.met ⟨xm_cb hG hW hm hdd hRL hl0, hts _ hin, hts _ hse⟩ ⟨xm_blind g _ h, hcell, xm_pre hW hR _⟩ rfl (xm_tlen hk1) hl.1 (xm_split2 hdr) (lv_room (xm_sum2 hdr hk2)) hd ⟨by omega, by omega⟩) hl hS hc hs h1 h2 rfl (fun r h' hq => hk _ _ _ _ _ _ hq)
  · exact H.elim
theorem xs_invVN (hG : xm_Gw g) (hΓ : xm_ok g Γ M d Q X) {y : MethodName} {b : ByteArray} {L : Nat} {r : Option FieldType} {d' n index : Nat} (hm : xm_mk (y, b, L, r, []) n) (hdd : Nat.ble (d' + 1) d = true) {ci : Nat} {rr : vw_C} (hc0 : xm_cl[ci]? = some rr) {host : String} (hl0 : Cond.methodLinkNest M.1.cls index y host ∈ lw_tbl) (hin : Cond.instanceMethod y ∈ lw_all) (hse : Cond.selects rr.1 y y ∈ lw_all) (hd : decode M.2.1 pc = .ok (.invokevirtual index, 3)) : xm_Imp g Γ pc (xi_vir g ci (y, b, L, r, []) d' n (pc + 3)) := by
  obtain ⟨p, e, R, s, m, args, below, meth, c, Qf⟩ := Γ
  obtain ⟨hx, hb, hml, hr, ho, hnm, hlk, htb, hW, hB0, hRf, hRl, hQf⟩ := hΓ
  intro ls st h bc bs k hk H lsA Hp locs cells slots hl hR hS hc hs
  have hdd : d' + 1 ≤ R.frames := by rw [hRf]; exact Nat.le_of_ble_eq_true hdd
  have hRL : R.locals = 4096 + 64 * R.frames := by rw [hRf]; exact hRl
  have hts := xm_hts hG hW args
  obtain ⟨hk0, H⟩ := H
  obtain ⟨hk1, hk2⟩ := xm_stk_of hk0
  split at H
  · next b0 rest hdr =>
    obtain ⟨w, fs, mc, ms, hbb, ⟨h1, h2⟩, H⟩ := H
    have hcell := xm_cell hG hW (hR.1 _ _ _ hbb).1 (C := rr.1) ⟨rr, hc0, rfl⟩
    exact xm_back (va_runVN (As := (st.take n).reverse) (rest := rest) (nL := c.maxLocals) ⟨hx, hb, rfl, ho, hts⟩ H.met ⟨xm_cn hG hW hm hdd hRL hl0, hts _ hin, hts _ hse⟩ ⟨xm_blind g _ h, hcell, xm_pre hW hR _⟩ rfl (xm_tlen hk1) hl.1 (xm_split2 hdr) (lv_room (xm_sum2 hdr hk2)) hd ⟨by omega, by omega⟩) hl hS hc hs h1 h2 rfl (fun r h' hq => hk _ _ _ _ _ _ hq)
  · exact H.elim
end XS5
