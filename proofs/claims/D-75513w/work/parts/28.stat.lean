/-! HANDLERS, super calls, string constants, statics, instanceof, casts -/
set_option maxRecDepth 100000
/-- the tables say that it can't be cast -/
def xm_nc (E T : String) : Prop := ∀ g : xm_G, xm_Gw g → va_Nc E T g.2.1
theorem xm_nc.at {g : xm_G} {s : State} (hG : xm_Gw g) (hW : g.2.1.WarmedH s.vm) {E T : String} (h : xm_nc E T) : va_Nc E T s := va_Nc.moved hW.alike (h g hG)
def xm_hnd : List (String × Nat) → String → (Nat → Prop) → Prop
  | [], _, _ => False
  | (nm, t) :: r, E, K => (Cond.castable E nm ∈ lw_tbl ∧ K t) ∨ (xm_nc E nm ∧ xm_hnd r E K)
/-- the handlers that cover pc, the first of them -/
def xm_cov (own : String) (pc : Nat) : List (Nat × Nat × Nat × Nat) → List (String × Nat) → Prop
  | _, [] => True
  | [], _ :: _ => False
  | (a, b, t, ct) :: r, (nm, t') :: hs => if covers ⟨a, b, t, ct⟩ pc = true then (t = t' ∧ ct ≠ 0 ∧ Cond.classLink own ct nm ∈ lw_all ∧ xm_cov own pc r hs) else xm_cov own pc r ((nm, t') :: hs)
section XS8
variable {g : xm_G} {Γ : xm_C} {M : xm_M} {d : Nat} {Q : xm_P} {X : xm_X} {pc : Nat}
theorem xm_caught {p : Program} {e : Env} {R : Room} {s : State} {m : MethodId} {args : Array Value} {below : List Frame} {meth : Method} {c : Code} {H : Heap} {locs : List Loc} {cells slots : Nat} {lsA : Array Slot} {rest : List Value} {Qf : State → Prop} (hG : xm_Gw g) (hW : g.2.1.WarmedH s.vm) {own : String} (ho : s.vm.findClass own = some m.cls) {E : String} {q : Nat} {ce : Cell} (hce : H[q]? = some ce) (hcv : ce.vm = .none) (hcl : s.vm.findClass E = some ce.cls) {K : Nat → Prop} (hK : ∀ t, K t → W p g.1 e R s m args below meth c H locs cells slots Qf (F0 m t lsA [.ref q])) :
    ∀ (hh : List (Nat × Nat × Nat × Nat)) (hs : List (String × Nat)) (pre : List ExceptionTableEntry), c.exceptionTable.toList = pre ++ tableOf hh → (∀ z ∈ pre, covers z pc = false ∨ (z.catchType ≠ 0 ∧ ∃ nm : String, (Cond.classLink own z.catchType nm).before args s = true ∧ va_Nc E nm s)) → xm_cov own pc hh hs → xm_hnd hs E K → vx_W p g.1 e R s m args below meth c H locs cells slots Qf (F0 m pc lsA rest) q := by
  intro hh
  induction hh with
  | nil =>
    intro hs pre hsp hpass hcov hh
    cases hs with
    | nil => exact hh.elim
    | cons x r => exact hcov.elim
  | cons x r ih =>
    obtain ⟨a, b, t, ct⟩ := x
    intro hs pre hsp hpass hcov hh
    cases hs with
    | nil => exact hh.elim
    | cons y hs =>
      obtain ⟨nm, t'⟩ := y
      have hsp2 : c.exceptionTable.toList = pre ++ (⟨a, b, t, ct⟩ : ExceptionTableEntry) :: tableOf r := hsp
      have hsp3 : c.exceptionTable.toList = (pre ++ [(⟨a, b, t, ct⟩ : ExceptionTableEntry)]) ++ tableOf r := by rw [hsp2, List.append_assoc]; rfl
      have hts := xm_hts hG hW args
      unfold xm_cov at hcov
      split at hcov
      · next hcv2 =>
        obtain ⟨rfl, h0, hlk, hcov⟩ := hcov
        rcases hh with ⟨hcast, hk⟩ | ⟨hnc, hh⟩
        · exact vx_catch ho pre ⟨a, b, t, ct⟩ (tableOf r) hsp2 hpass hcv2 h0 (hts _ hlk) (va_Nw.use rfl (xm_cst hG hW hcast)) hce hcv hcl (hK t hk)
        · refine ih hs _ hsp3 (fun z hz => ?_) hcov hh
          rcases List.mem_append.mp hz with hz | hz
          · exact hpass z hz
          · rw [List.mem_singleton.mp hz]
            exact Or.inr ⟨h0, nm, hts _ hlk, hnc.at hG hW⟩
      · next hcv2 =>
        refine ih ((nm, t') :: hs) _ hsp3 (fun z hz => ?_) hcov hh
        rcases List.mem_append.mp hz with hz | hz
        · exact hpass z hz
        · rw [List.mem_singleton.mp hz]
          exact Or.inl (by simpa using hcv2)
/-- a call through an object, what it throws is caught here -/
def xi_virH (g : xm_G) (ci : Nat) (M' : xm_M) (d' na n : Nat) (hs : List (String × Nat)) : xm_I := fun ls st h bc bs k => xm_stk na st = true ∧ match st.drop na with
  | .ref b :: rest => ∃ (w : Bool) (fs : List Value) (mc ms : Nat), h b = some (w, .inr (ci, fs)) ∧ (mc ≤ bc ∧ ms ≤ bs) ∧ xm_Run g M' d' (.ref b :: (st.take na).reverse) h mc ms (fun r h' => k n ls (r.toList ++ rest) h' (bc - mc) (bs - ms)) (fun E q h' => xm_hnd hs E (fun t => k t ls [.ref q] h' (bc - mc) (bs - ms)))
  | _ => False
theorem xs_invVH (hG : xm_Gw g) (hΓ : xm_ok g Γ M d Q X) {y : MethodName} {b : ByteArray} {L : Nat} {r : Option FieldType} {d' n index : Nat} (hm : xm_mk (y, b, L, r, []) n) (hdd : Nat.ble (d' + 1) d = true) {hs0 : List (String × Nat)} (hcov : xm_cov M.1.cls pc M.2.2.2.2 hs0) {ci : Nat} {rr : vw_C} (hc0 : xm_cl[ci]? = some rr) (hl0 : Cond.methodLink M.1.cls index y ∈ lw_all) (hin : Cond.instanceMethod y ∈ lw_all) (hse : Cond.selects rr.1 y y ∈ lw_all) (hd : decode M.2.1 pc = .ok (.invokevirtual index, 3)) : xm_Imp g Γ pc (xi_virH g ci (y, b, L, r, []) d' n (pc + 3) hs0) := by
  obtain ⟨p, e, R, s, m, args, below, meth, c, Qf⟩ := Γ
  obtain ⟨hx, hb, hml, hr, ho, hnm, hlk, htb, hW, hB0, hRf, hRl, hQf⟩ := hΓ
  intro ls st h bc bs k hk H lsA Hp locs cells slots hl hR hS hc hs
  have hdd : d' + 1 ≤ R.frames := by rw [hRf]; exact Nat.le_of_ble_eq_true hdd
  have hRL : R.locals = 4096 + 64 * R.frames := by rw [hRf]; exact hRl
  have hts := xm_hts hG hW args
  obtain ⟨hk0, H⟩ := H
  obtain ⟨hk1, hk2⟩ := xm_stk_of hk0
  split at H
  · next b0 rest hdr =>
    obtain ⟨w, fs, mc, ms, hbb, ⟨h1, h2⟩, H⟩ := H
    have hcell := xm_cell hG hW (hR.1 _ _ _ hbb).1 (C := rr.1) ⟨rr, hc0, rfl⟩
    exact xm_backX (vq_runV (As := (st.take n).reverse) (rest := rest) (nL := c.maxLocals) ⟨hx, hb, rfl, ho, hts⟩ H ⟨xm_cb hG hW hm hdd hRL hl0, hts _ hin, hts _ hse⟩ ⟨xm_blind g _ h, hcell, xm_pre hW hR _⟩ rfl (xm_tlen hk1) hl.1 (xm_split2 hdr) (lv_room (xm_sum2 hdr hk2)) hd ⟨by omega, by omega⟩) hl hS hc hs h1 h2 rfl (fun r h' hq => hk _ _ _ _ _ _ hq)
      (fun E q h' ce H1 locs1 hX hR1 hS1 hce hcv hcl => xm_caught hG hW ho hce hcv hcl (fun t ht => hk _ _ _ _ _ _ ht lsA H1 locs1 (cells + mc) (slots + ms) hl hR1 hS1 (by omega) (by omega)) _ _ [] htb (fun z hz => by cases hz) hcov hX)
  · exact H.elim
/-- a superclass's method -/
theorem xs_invP (hG : xm_Gw g) (hΓ : xm_ok g Γ M d Q X) {y : MethodName} {b : ByteArray} {L : Nat} {r : Option FieldType} {d' n index : Nat} (hm : xm_mk (y, b, L, r, []) n) (hdd : Nat.ble (d' + 1) d = true) {ci : Nat} {rr : vw_C} (hc0 : xm_cl[ci]? = some rr) (hl0 : Cond.methodLink M.1.cls index y ∈ lw_all) (hsm : Cond.sameMethod y.cls y.cls y.name y.desc ∈ lw_all) (hsu : Cond.superclass M.1.cls y.cls ∈ lw_all) (hin : Cond.instanceMethod y ∈ lw_all) (hy : y.name ≠ "<init>") (hd : decode M.2.1 pc = .ok (.invokespecial index, 3)) : xm_Imp g Γ pc (xi_vir g ci (y, b, L, r, []) d' n (pc + 3)) := by
  obtain ⟨p, e, R, s, m, args, below, meth, c, Qf⟩ := Γ
  obtain ⟨hx, hb, hml, hr, ho, hnm, hlk, htb, hW, hB0, hRf, hRl, hQf⟩ := hΓ
  intro ls st h bc bs k hk H lsA Hp locs cells slots hl hR hS hc hs
  have hdd : d' + 1 ≤ R.frames := by rw [hRf]; exact Nat.le_of_ble_eq_true hdd
  have hRL : R.locals = 4096 + 64 * R.frames := by rw [hRf]; exact hRl
  have hts := xm_hts hG hW args
  obtain ⟨hk0, H⟩ := H
  obtain ⟨hk1, hk2⟩ := xm_stk_of hk0
  split at H
  · next b0 rest hdr =>
    obtain ⟨w, fs, mc, ms, hbb, ⟨h1, h2⟩, H⟩ := H
    have hcell := xm_cell hG hW (hR.1 _ _ _ hbb).1 (C := rr.1) ⟨rr, hc0, rfl⟩
    obtain ⟨m1, m2, m3, m4, m5⟩ := hm
    have hcw : va_CS R s args M.1.cls index y b L r [xm_cw (y, b, L, r, [])] (xm_rm d' mc ms) mc ms n := by
      refine ⟨⟨rfl, rfl, hdd, ?_, ?_, List.mem_singleton.mpr rfl⟩, hts _ hl0, hts _ hsm, hts _ hsu, hts _ hin, hts _ m2, hts _ m1, hy, fun sig hs => xm_par (M := (y, b, L, r, [])) m5 sig hs⟩
      · have : L ≤ 45 := m3
        show 8 + (L + 11) + (4096 + 64 * d') ≤ R.locals
        omega
      · intro w hw a' U hU
        rw [List.mem_singleton.mp hw]
        exact xm_hts hG (State.WarmedH.trans hW hU) a' _ m1
    exact xm_back (va_runSU (As := (st.take n).reverse) (rest := rest) (nL := c.maxLocals) ((xm_Ks hG hW).1 ci _ hc0).2 ⟨hx, hb, rfl, ho, hts⟩ H.met hcw ⟨xm_blind g _ h, hcell, xm_pre hW hR _⟩ rfl (xm_tlen hk1) hl.1 (xm_split2 hdr) (lv_room (xm_sum2 hdr hk2)) hd ⟨by omega, by omega⟩) hl hS hc hs h1 h2 rfl (fun r h' hq => hk _ _ _ _ _ _ hq)
  · exact H.elim
/-! string constants: their addresses -/
def xm_sa (g : xm_G) (own : String) (k : Nat) : Nat := match (Term.string own k).eval #[] g.2.1 none [] g.2.1 with
  | some (.ref a) => a
  | _ => 0
theorem xm_sr (hG : xm_Gw g) {own tx : String} {k : Nat} {cur : ClassId} (hcur : g.2.1.vm.findClass own = some cur) (h : Cond.stringRef own k tx ∈ lw_tbl) : vk_R own k tx (xm_sa g own k) g.2.1 := by
  obtain ⟨a0, h0, -⟩ := hG
  have h1 : (Cond.stringRef own k tx).before #[] g.2.1 = true := h0 _ h
  obtain ⟨k1, cf, i, a, -, -, -, -, -, he⟩ := Cond.stringRef_spec (args := #[]) (first := g.2.1) (o := none) (s := g.2.1) (idx := []) hcur h1
  have e : xm_sa g own k = a := by
    unfold xm_sa
    rw [he]
  rw [e]
  exact vk_R.of h1 he
theorem xs_ldS (hG : xm_Gw g) (hΓ : xm_ok g Γ M d Q X) {index : Nat} {tx : String} (hq : Cond.stringRef M.1.cls index tx ∈ lw_tbl) (hd : decode M.2.1 pc = .ok (.ldc index, 2)) : xm_Imp g Γ pc (xi_psh (.ref (xm_sa g M.1.cls index)) (pc + 2)) := by
  obtain ⟨p, e, R, s, m, args, below, meth, c, Qf⟩ := Γ
  obtain ⟨hx, hb, -, -, ho, -, -, -, hW, -⟩ := hΓ
  intro ls st h bc bs k hk H lsA Hp locs cells slots hl hR hS hc hs
  exact va_ldcS hx hb ho (vk_R.warm hW (xm_sr hG (by rw [← hW.alike.findClass]; exact ho) hq)) hd (hk _ _ _ _ _ _ H lsA Hp locs cells slots hl hR hS hc hs)
/-! statics -/
def xm_stv (g : xm_G) (C n dc : String) : Value := ((Term.static C n dc).eval #[] g.2.1 none [] g.2.1).getD .null
theorem xs_gst (hG : xm_Gw g) (hΓ : xm_ok g Γ M d Q X) {C n dc ref : String} {index : Nat} {v : Value} (hv : (Term.static C n dc).eval #[] g.2.1 none [] g.2.1 = some v) (hly : Cond.laysStatic C n dc ∈ lw_tbl) (hin : Cond.initialized C ∈ lw_tbl) (hr0 : ref = C) (hl0 : Cond.fieldLink M.1.cls index ref n dc ∈ lw_all) (hd : decode M.2.1 pc = .ok (.getstatic index, 3)) : xm_Imp g Γ pc (xi_psh v (pc + 3)) := by
  obtain ⟨p, e, R, s, m, args, below, meth, c, Qf⟩ := Γ
  obtain ⟨hx, hb, hml, hr, ho, hnm, hlk, htb, hW, hB0, hRf, hRl, hQf⟩ := hΓ
  intro ls st h bc bs k hk H lsA Hp locs cells slots hl hR hS hc hs
  subst hr0
  have hZ : va_Z ref n dc v (xm_A g) g.2.1 g.2.1.heap := by
    obtain ⟨a0, h0, -⟩ := hG
    exact va_Zof (args := #[]) (h0 _ hly) (h0 _ hin) hv (fun a ha => Nat.not_le.mpr ha)
  have hZ2 : va_Z ref n dc v (xm_A g) s s.heap := va_Z.kept (va_Z.moved hW.alike hZ) (fun a ha _ => hB0.2 a ha)
  exact va_gets hx hb hZ2 hS ho (xm_hts hG hW args _ hl0) (fun x h => h) hd (hk _ _ _ _ _ _ H lsA Hp locs cells slots hl hR hS hc hs)
theorem xm_sti (hG : xm_Gw g) {C n dc : String} {z : Int32} (h : Cond.eq (.static C n dc) (.int z) ∈ flatC (Jvm.Cond.and given_1 narrow_1)) : (Term.static C n dc).eval #[] g.2.1 none [] g.2.1 = some (.int z) := by
  obtain ⟨a0, -, h1, -⟩ := hG
  exact va_eqi (flat_of_before _ h1 _ h)
theorem xm_str (hG : xm_Gw g) {C n dc : String} (h : Cond.isRef (.static C n dc) ∈ flatC (Jvm.Cond.and given_1 narrow_1)) : (Term.static C n dc).eval #[] g.2.1 none [] g.2.1 = some (xm_stv g C n dc) := by
  obtain ⟨a0, -, h1, -⟩ := hG
  have h2 := flat_of_before _ h1 _ h
  have h3 : (Cond.isRef (.static C n dc)).before #[] g.2.1 = true := h2
  unfold xm_stv
  cases he : (Term.static C n dc).eval #[] g.2.1 none [] g.2.1 with
  | none => simp [Cond.before, Cond.holds, Cond.value, he] at h3
  | some v => rfl
/-! instanceof, and casts to what is no class of ours -/
def xi_castY (T : String) (n : Nat) : xm_I := fun ls st h bc bs k => match st with
  | .null :: r => k n ls (.null :: r) h bc bs
  | .ref a :: r => ∃ (w : Bool) (o : xm_E) (C : String), h a = some (w, o) ∧ xm_nm o C ∧ Cond.castable C T ∈ lw_tbl ∧ k n ls (.ref a :: r) h bc bs
  | _ => False
theorem xs_castY (hG : xm_Gw g) (hΓ : xm_ok g Γ M d Q X) {T : String} {index : Nat} (hcl : Cond.classLink M.1.cls index T ∈ lw_all) (hd : decode M.2.1 pc = .ok (.checkcast index, 3)) : xm_Imp g Γ pc (xi_castY T (pc + 3)) := by
  obtain ⟨p, e, R, s, m, args, below, meth, c, Qf⟩ := Γ
  obtain ⟨hx, hb, hml, hr, ho, hnm, hlk, htb, hW, hB0, hRf, hRl, hQf⟩ := hΓ
  intro ls st h bc bs k hk H lsA Hp locs cells slots hl hR hS hc hs
  unfold xi_castY at H
  split at H
  · exact lv_castN hx hb hd (hk _ _ _ _ _ _ H lsA Hp locs cells slots hl hR hS hc hs)
  · obtain ⟨w, o, C, ha, hC, hCT, H⟩ := H
    exact va_castY hx hb ho (xm_hts hG hW args _ hcl) (xm_cst hG hW hCT) (xm_cell hG hW (hR.1 _ _ _ ha).1 hC) hd (hk _ _ _ _ _ _ H lsA Hp locs cells slots hl hR hS hc hs)
  · exact H.elim
/-- an array's cast to its own class -/
theorem xs_castA (hG : xm_Gw g) (hΓ : xm_ok g Γ M d Q X) {ty : FieldType} {T : String} {index : Nat} (hT : "[" ++ ty.toString = T) (hcl : Cond.classLink M.1.cls index T ∈ lw_all) (hd : decode M.2.1 pc = .ok (.checkcast index, 3)) : xm_Imp g Γ pc (fun ls st h bc bs k => match st with
  | .null :: r => k (pc + 3) ls (.null :: r) h bc bs
  | .ref a :: r => ∃ (w : Bool) (A : vp_A), h a = some (w, .inl (ty, A)) ∧ k (pc + 3) ls (.ref a :: r) h bc bs
  | _ => False) := by
  obtain ⟨p, e, R, s, m, args, below, meth, c, Qf⟩ := Γ
  obtain ⟨hx, hb, hml, hr, ho, hnm, hlk, htb, hW, hB0, hRf, hRl, hQf⟩ := hΓ
  intro ls st h bc bs k hk H lsA Hp locs cells slots hl hR hS hc hs
  split at H
  · exact lv_castN hx hb hd (hk _ _ _ _ _ _ H lsA Hp locs cells slots hl hR hS hc hs)
  · obtain ⟨w, A, ha, H⟩ := H
    obtain ⟨cell, h1, h2, h3⟩ := xm_cell hG hW (hR.1 _ _ _ ha).1 (C := T) hT
    intro T0 hT0 X0
    obtain ⟨vm', X', st⟩ := X0.checkcastYes hx ho (xm_hts hG hW args _ hcl) (by rw [hT0]; exact h1) h2 h3 (va_asg _ _) (g := F0 m pc lsA (.ref _ :: _)) rfl rfl (by rw [hb]; exact hd)
    obtain ⟨t, a1, b1⟩ := hk _ _ _ _ _ _ H lsA Hp locs cells slots hl hR hS hc hs (T0.setVm vm') hT0 X'
    exact ⟨t, st t a1, b1⟩
  · exact H.elim
def xi_inst (T : String) (n : Nat) : xm_I := fun ls st h bc bs k => match st with
  | .null :: r => k n ls (.int 0 :: r) h bc bs
  | .ref a :: r => ∃ (w : Bool) (o : xm_E) (C : String), h a = some (w, o) ∧ xm_nm o C ∧ ((C = T ∧ k n ls (.int 1 :: r) h bc bs) ∨ (xm_nc C T ∧ k n ls (.int 0 :: r) h bc bs))
  | _ => False
theorem xs_inst (hG : xm_Gw g) (hΓ : xm_ok g Γ M d Q X) {T : String} {index : Nat} (hcl : Cond.classLink M.1.cls index T ∈ lw_all) (hd : decode M.2.1 pc = .ok (.instanceof index, 3)) : xm_Imp g Γ pc (xi_inst T (pc + 3)) := by
  obtain ⟨p, e, R, s, m, args, below, meth, c, Qf⟩ := Γ
  obtain ⟨hx, hb, hml, hr, ho, hnm, hlk, htb, hW, hB0, hRf, hRl, hQf⟩ := hΓ
  intro ls st h bc bs k hk H lsA Hp locs cells slots hl hR hS hc hs
  unfold xi_inst at H
  split at H
  · exact lv_instN hx hb hd (hk _ _ _ _ _ _ H lsA Hp locs cells slots hl hR hS hc hs)
  · obtain ⟨w, o, C, ha, hC, H⟩ := H
    have hcell := xm_cell hG hW (hR.1 _ _ _ ha).1 hC
    rcases H with ⟨rfl, H⟩ | ⟨hn, H⟩
    · exact va_instE hx hb ho (xm_hts hG hW args _ hcl) hcell hd (hk _ _ _ _ _ _ H lsA Hp locs cells slots hl hR hS hc hs)
    · exact va_instNo hx hb ho (xm_hts hG hW args _ hcl) (hn.at hG hW) hcell hd (hk _ _ _ _ _ _ H lsA Hp locs cells slots hl hR hS hc hs)
  · exact H.elim
end XS8
