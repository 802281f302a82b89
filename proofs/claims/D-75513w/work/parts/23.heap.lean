/-! INSTRUCTIONS: fields, arrays, new objects, casts (printed by gen/mkheap.py) -/
set_option maxRecDepth 100000
theorem xm_arr {g : xm_G} {s : State} (hK : xm_K g s) {ty : FieldType} (h : ty ∈ xm_tl) : ArrOfT s (g.2.2.2 ty) ty ∧ va_RA s (g.2.2.2 ty) ty := by
  obtain ⟨i, hi⟩ := List.getElem?_of_mem h
  exact hK.2 i (g.2.2.2 ty, ty) (by rw [List.getElem?_map, hi]; rfl)
/-- reading an object -/
theorem xm_rdO {g : xm_G} {w : Bool} {a ci : Nat} {fs : List Value} {H : Heap} (h : xm_at g w a (.inr (ci, fs)) H) : ∃ (r : vw_C) (cell : Cell), xm_cl[ci]? = some r ∧ fs.length = r.2.2 ∧ H[a]? = some cell ∧ cell.cls = g.2.2.1.1 ci ∧ cell.vm.isStatics = false ∧ cell.vm ≠ .unknown ∧ ∀ k : Nat, k < r.2.2 → cell.slots[g.2.2.1.2 ci k]? = some (vp_V fs k) := by
  cases w
  · exact h
  · obtain ⟨r, h1, h2, cell, h3, h4, h5, h6⟩ := h
    exact ⟨r, cell, h1, h2, h3, h4, by rw [h5]; rfl, (by rw [h5]; exact (fun z => (by cases z))), h6⟩
/-- reading an array -/
theorem xm_rdA {g : xm_G} {s : State} (hG : xm_Gw g) (hW : g.2.1.WarmedH s.vm) {w : Bool} {a : Nat} {ty : FieldType} {A : vp_A} {H : Heap} (h : xm_at g w a (.inl (ty, A)) H) : ty ∈ xm_tl ∧ ∃ cell : Cell, H[a]? = some cell ∧ s.isArrayOf cell ty ∧ cell.vm ≠ .unknown ∧ cell.vm.isStatics = false ∧ s.vm.findClass ("[" ++ ty.toString) = some cell.cls ∧ A.1 ≤ cell.slots.size ∧ cell.slots.size.toInt32 = Int32.ofNat A.1 ∧ ∀ j : Nat, j < A.1 → cell.slots[j]? = some (xm_el A j) := by
  cases w
  · obtain ⟨h0, cell, h1, h2, h3, h4, h5, h6⟩ := h
    exact ⟨h0, cell, h1, State.isArrayOf_alike hW.alike h2, h3, h4, by rw [hW.alike.findClass]; exact h5, h6⟩
  · obtain ⟨h0, h1⟩ := h
    obtain ⟨k1, k2⟩ := xm_arr (xm_Ks hG hW) h0
    rw [xm_el_cell] at h1
    refine ⟨h0, _, h1, k1 A.1 (xm_el A), (fun z => (by cases z)), rfl, ?_, (by rw [arrV_size]; exact Nat.le_refl _), (by rw [arrV_size] <;> rfl), fun j hj => arrV_read _ _ hj⟩
    cases ty with
    | object C => obtain ⟨_, _, _, _, _, k3⟩ := k2; exact k3
    | _ => exact k2
theorem xm_hin {i N S : Nat} (hj : i < N) (hN : N < 2 ^ 31) (h : N ≤ S) : ¬ (nI i < 0 ∨ S ≤ (nI i).toNatClampNeg) := by
  rintro (z | z)
  · exact (vp_in_nI hj hN) (Or.inl z)
  · rw [nI_clamp (by omega)] at z
    omega
section XS3
variable {g : xm_G} {Γ : xm_C} {M : xm_M} {d : Nat} {Q : xm_P} {X : xm_X} {pc : Nat}
def xi_get (ci kf n : Nat) : xm_I := fun ls st h bc bs k => match st with
  | .ref a :: r => ∃ (w : Bool) (fs : List Value) (v : Value), h a = some (w, .inr (ci, fs)) ∧ fs[kf]? = some v ∧ k n ls (v :: r) h bc bs
  | _ => False
theorem xi_get.in {ci kf n : Nat} {ls : List (Option Value)} {r : List Value} {h : xm_H} {bc bs : Nat} {k : xm_T} {a : Nat} {w : Bool} {fs : List Value} {v : Value} (ha : h a = some (w, .inr (ci, fs))) (hv : fs[kf]? = some v) (H : k n ls (v :: r) h bc bs) : ∃ (w : Bool) (fs : List Value) (v : Value), h a = some (w, .inr (ci, fs)) ∧ fs[kf]? = some v ∧ k n ls (v :: r) h bc bs := ⟨w, fs, v, ha, hv, H⟩
theorem xs_get (hG : xm_Gw g) (hΓ : xm_ok g Γ M d Q X) {ci kf index : Nat} {r : vw_C} (hc0 : xm_cl[ci]? = some r) (hk0 : kf < r.2.2) (hl0 : Cond.fieldLink M.1.cls index (r.2.1 kf).1 (r.2.1 kf).2.1 (r.2.1 kf).2.2.1 ∈ lw_all) (hd : decode M.2.1 pc = .ok (.getfield index, 3)) : xm_Imp g Γ pc (xi_get ci kf (pc + 3)) := by
  obtain ⟨p, e, R, s, m, args, below, meth, c, Qf⟩ := Γ
  obtain ⟨hx, hb, hml, hr, ho, hnm, hlk, htb, hW, hB0, hRf, hRl, hQf⟩ := hΓ
  intro ls st h bc bs k hk H lsA Hp locs cells slots hl hR hS hc hs
  unfold xi_get at H
  split at H
  · obtain ⟨w, fs, v, ha, hv, H⟩ := H
    obtain ⟨r', cell, h1, hlen, q1, q2, -, q3, q4⟩ := xm_rdO (hR.1 _ _ _ ha).1
    cases h1.symm.trans hc0
    obtain ⟨hS2, hfc, kC, hkC, hkind⟩ := (xm_Ks hG hW).1 ci _ hc0
    obtain ⟨cf, kfl, fi, f, hi, hsl⟩ := hS2 kf hk0
    refine W.getf hx hb ho (xm_hts hG hW args _ hl0) ((fun _ (h : s.fieldFound? (r.2.1 kf).1 (r.2.1 kf).2.1 (r.2.1 kf).2.2.1 = some _) => h) _ hi) (u_facts hfc hkC (u_lays (xm_hts hG hW args) (xm_cok ci _ hc0).1 hk0) hi).1 q1 q3 (v := v) ?_ rfl rfl hd (hk _ _ _ _ _ _ H lsA Hp locs cells slots hl hR hS hc hs)
    rw [hsl, q4 kf hk0]
    simp [vp_V, hv]
  · exact H.elim
theorem xs_getS (hG : xm_Gw g) (hΓ : xm_ok g Γ M d Q X) {ci kf index : Nat} {r : vw_C} {ref : String} (hc0 : xm_cl[ci]? = some r) (hk0 : kf < r.2.2) (hl0 : Cond.fieldLink M.1.cls index ref (r.2.1 kf).2.1 (r.2.1 kf).2.2.1 ∈ lw_all) (hsf : Cond.sameField ref (r.2.1 kf).1 (r.2.1 kf).2.1 (r.2.1 kf).2.2.1 ∈ lw_all) (hd : decode M.2.1 pc = .ok (.getfield index, 3)) : xm_Imp g Γ pc (xi_get ci kf (pc + 3)) := by
  obtain ⟨p, e, R, s, m, args, below, meth, c, Qf⟩ := Γ
  obtain ⟨hx, hb, hml, hr, ho, hnm, hlk, htb, hW, hB0, hRf, hRl, hQf⟩ := hΓ
  intro ls st h bc bs k hk H lsA Hp locs cells slots hl hR hS hc hs
  unfold xi_get at H
  split at H
  · obtain ⟨w, fs, v, ha, hv, H⟩ := H
    obtain ⟨r', cell, h1, hlen, q1, q2, -, q3, q4⟩ := xm_rdO (hR.1 _ _ _ ha).1
    cases h1.symm.trans hc0
    obtain ⟨hS2, hfc, kC, hkC, hkind⟩ := (xm_Ks hG hW).1 ci _ hc0
    obtain ⟨cf, kfl, fi, f, hi, hsl⟩ := hS2 kf hk0
    refine W.getf hx hb ho (xm_hts hG hW args _ hl0) ((fun x h => u_same (xm_hts hG hW args _ hsf) x h) _ hi) (u_facts hfc hkC (u_lays (xm_hts hG hW args) (xm_cok ci _ hc0).1 hk0) hi).1 q1 q3 (v := v) ?_ rfl rfl hd (hk _ _ _ _ _ _ H lsA Hp locs cells slots hl hR hS hc hs)
    rw [hsl, q4 kf hk0]
    simp [vp_V, hv]
  · exact H.elim
theorem xm_nest {s : State} (hG : xm_Gw g) (hW : g.2.1.WarmedH s.vm) (args : Array Value) {a b n f hst : String} {i : Nat} (h : Cond.fieldLinkNest a i b n f hst ∈ lw_tbl) : (Cond.fieldLinkNest a i b n f hst).before args s = true := by
  obtain ⟨a0, h0, -⟩ := hG
  exact va_Nw.use rfl (va_Nw.warmF hW (va_Nw.of rfl (h0 _ h)))
theorem xm_nestM {s : State} (hG : xm_Gw g) (hW : g.2.1.WarmedH s.vm) {a : String} {i : Nat} {x : MethodName} {hst : String} (h : Cond.methodLinkNest a i x hst ∈ lw_tbl) : va_Nw (.methodLinkNest a i x hst) s := by
  obtain ⟨a0, h0, -⟩ := hG
  exact va_Nw.warmM hW (va_Nw.of rfl (h0 _ h))
theorem xm_cst {s : State} (hG : xm_Gw g) (hW : g.2.1.WarmedH s.vm) {a b : String} (h : Cond.castable a b ∈ lw_tbl) : va_Nw (.castable a b) s := by
  obtain ⟨a0, h0, -⟩ := hG
  exact va_Nw.warmC hW (va_Nw.of rfl (h0 _ h))
theorem xs_getN (hG : xm_Gw g) (hΓ : xm_ok g Γ M d Q X) {ci kf index : Nat} {r : vw_C} {host : String} (hc0 : xm_cl[ci]? = some r) (hk0 : kf < r.2.2) (hl0 : Cond.fieldLinkNest M.1.cls index (r.2.1 kf).1 (r.2.1 kf).2.1 (r.2.1 kf).2.2.1 host ∈ lw_tbl) (hd : decode M.2.1 pc = .ok (.getfield index, 3)) : xm_Imp g Γ pc (xi_get ci kf (pc + 3)) := by
  obtain ⟨p, e, R, s, m, args, below, meth, c, Qf⟩ := Γ
  obtain ⟨hx, hb, hml, hr, ho, hnm, hlk, htb, hW, hB0, hRf, hRl, hQf⟩ := hΓ
  intro ls st h bc bs k hk H lsA Hp locs cells slots hl hR hS hc hs
  unfold xi_get at H
  split at H
  · obtain ⟨w, fs, v, ha, hv, H⟩ := H
    obtain ⟨r', cell, h1, hlen, q1, q2, -, q3, q4⟩ := xm_rdO (hR.1 _ _ _ ha).1
    cases h1.symm.trans hc0
    obtain ⟨hS2, hfc, kC, hkC, hkind⟩ := (xm_Ks hG hW).1 ci _ hc0
    obtain ⟨cf, kfl, fi, f, hi, hsl⟩ := hS2 kf hk0
    refine va_Wgetf hx hb ho (xm_nest hG hW args hl0) ((fun _ (h : s.fieldFound? (r.2.1 kf).1 (r.2.1 kf).2.1 (r.2.1 kf).2.2.1 = some _) => h) _ hi) (u_facts hfc hkC (u_lays (xm_hts hG hW args) (xm_cok ci _ hc0).1 hk0) hi).1 q1 q3 (v := v) ?_ rfl rfl hd (hk _ _ _ _ _ _ H lsA Hp locs cells slots hl hR hS hc hs)
    rw [hsl, q4 kf hk0]
    simp [vp_V, hv]
  · exact H.elim
theorem xs_getNS (hG : xm_Gw g) (hΓ : xm_ok g Γ M d Q X) {ci kf index : Nat} {r : vw_C} {host : String} {ref : String} (hc0 : xm_cl[ci]? = some r) (hk0 : kf < r.2.2) (hl0 : Cond.fieldLinkNest M.1.cls index ref (r.2.1 kf).2.1 (r.2.1 kf).2.2.1 host ∈ lw_tbl) (hsf : Cond.sameField ref (r.2.1 kf).1 (r.2.1 kf).2.1 (r.2.1 kf).2.2.1 ∈ lw_all) (hd : decode M.2.1 pc = .ok (.getfield index, 3)) : xm_Imp g Γ pc (xi_get ci kf (pc + 3)) := by
  obtain ⟨p, e, R, s, m, args, below, meth, c, Qf⟩ := Γ
  obtain ⟨hx, hb, hml, hr, ho, hnm, hlk, htb, hW, hB0, hRf, hRl, hQf⟩ := hΓ
  intro ls st h bc bs k hk H lsA Hp locs cells slots hl hR hS hc hs
  unfold xi_get at H
  split at H
  · obtain ⟨w, fs, v, ha, hv, H⟩ := H
    obtain ⟨r', cell, h1, hlen, q1, q2, -, q3, q4⟩ := xm_rdO (hR.1 _ _ _ ha).1
    cases h1.symm.trans hc0
    obtain ⟨hS2, hfc, kC, hkC, hkind⟩ := (xm_Ks hG hW).1 ci _ hc0
    obtain ⟨cf, kfl, fi, f, hi, hsl⟩ := hS2 kf hk0
    refine va_Wgetf hx hb ho (xm_nest hG hW args hl0) ((fun x h => u_same (xm_hts hG hW args _ hsf) x h) _ hi) (u_facts hfc hkC (u_lays (xm_hts hG hW args) (xm_cok ci _ hc0).1 hk0) hi).1 q1 q3 (v := v) ?_ rfl rfl hd (hk _ _ _ _ _ _ H lsA Hp locs cells slots hl hR hS hc hs)
    rw [hsl, q4 kf hk0]
    simp [vp_V, hv]
  · exact H.elim
def xi_put (ci kf : Nat) (ty : FieldType) (n : Nat) : xm_I := fun ls st h bc bs k => match st with
  | v :: .ref a :: r => ∃ fs : List Value, h a = some (true, .inr (ci, fs)) ∧ (narrow ty v = v ∧ fits ty v = true) ∧ k n ls r (xm_up h a (.inr (ci, fs.set kf v))) bc bs
  | _ => False
theorem xs_put (hG : xm_Gw g) (hΓ : xm_ok g Γ M d Q X) {ci kf index : Nat} {r : vw_C} {ty : FieldType} (hc0 : xm_cl[ci]? = some r) (hk0 : kf < r.2.2) (hfin : (r.2.1 kf).2.2.2 = false) (hty : parseFieldDescriptor (r.2.1 kf).2.2.1 = some ty) (hl0 : Cond.fieldLink M.1.cls index (r.2.1 kf).1 (r.2.1 kf).2.1 (r.2.1 kf).2.2.1 ∈ lw_all) (hd : decode M.2.1 pc = .ok (.putfield index, 3)) : xm_Imp g Γ pc (xi_put ci kf ty (pc + 3)) := by
  obtain ⟨p, e, R, s, m, args, below, meth, c, Qf⟩ := Γ
  obtain ⟨hx, hb, hml, hr, ho, hnm, hlk, htb, hW, hB0, hRf, hRl, hQf⟩ := hΓ
  intro ls st h bc bs k hk H lsA Hp locs cells slots hl hR hS hc hs
  unfold xi_put at H
  split at H
  · obtain ⟨fs, ha, ⟨hn, hfit⟩, H⟩ := H
    obtain ⟨hf1, hf2, hf3⟩ := xm_cok ci r hc0
    have hts := xm_hts hG hW args
    have hK := xm_Ks hG hW
    have hap := xm_apart hts hf1 (fun k => (parseFieldDescriptor (r.2.1 k).2.2.1).getD .int) (fun k hk => by obtain ⟨z, hz⟩ := Option.isSome_iff_exists.mp (hf3 k hk); rw [hz]; rfl) hf2 hK hc0
    obtain ⟨r', h1, hlen, cell, q1, q2, q3, q4⟩ := (hR.1 _ _ _ ha).1
    have hr' : r' = r := Option.some.inj (h1.symm.trans hc0)
    subst hr'
    obtain ⟨hS2, hfc, kC, hkC, hkind⟩ := hK.1 ci _ hc0
    obtain ⟨cf, kfl, fi, f, hi, hsl⟩ := hS2 kf hk0
    have hlay := hts _ (hf1 _ (u_in_lay hk0))
    unfold u_lay at hlay
    rw [if_neg (by rw [hfin]; decide)] at hlay
    have hst := (u_facts hfc hkC (u_lays hts hf1 hk0) hi).1
    have h6 := u_store hfc hkC hkind hlay hi hty hn hfit
    refine W.putK hx hb (f := f) ⟨ho, hts _ hl0, ⟨_, _, _, hi⟩, hst⟩ (by rw [q2]; exact h6) q1 q3 (by rw [hsl]; exact k2_hasslot (q4 kf hk0)) rfl rfl hd fun H' e1 e2 e3 => ?_
    rw [hsl] at e1 ⊢
    have hA : xm_A g _ := (hR.1 _ _ _ ha).2 rfl
    exact hk _ _ _ _ _ _ H lsA H' _ cells slots hl (hR.put ha ⟨r', hc0, by rw [List.length_set]; exact hlen, t_OB.to (V := updV (vp_V fs) kf _) ⟨_, e1, q2, q3, t_set q4 hap hk0 _⟩ (fun j _ => vp_updV_set (by rw [hlen]; exact hk0) _ j)⟩ e2 e3) (hS.put e2 e3 hA) hc hs
  · exact H.elim
theorem xs_putS (hG : xm_Gw g) (hΓ : xm_ok g Γ M d Q X) {ci kf index : Nat} {r : vw_C} {ref : String} {ty : FieldType} (hc0 : xm_cl[ci]? = some r) (hk0 : kf < r.2.2) (hfin : (r.2.1 kf).2.2.2 = false) (hty : parseFieldDescriptor (r.2.1 kf).2.2.1 = some ty) (hl0 : Cond.fieldLink M.1.cls index ref (r.2.1 kf).2.1 (r.2.1 kf).2.2.1 ∈ lw_all) (hsf : Cond.sameField ref (r.2.1 kf).1 (r.2.1 kf).2.1 (r.2.1 kf).2.2.1 ∈ lw_all) (hd : decode M.2.1 pc = .ok (.putfield index, 3)) : xm_Imp g Γ pc (xi_put ci kf ty (pc + 3)) := by
  obtain ⟨p, e, R, s, m, args, below, meth, c, Qf⟩ := Γ
  obtain ⟨hx, hb, hml, hr, ho, hnm, hlk, htb, hW, hB0, hRf, hRl, hQf⟩ := hΓ
  intro ls st h bc bs k hk H lsA Hp locs cells slots hl hR hS hc hs
  unfold xi_put at H
  split at H
  · obtain ⟨fs, ha, ⟨hn, hfit⟩, H⟩ := H
    obtain ⟨hf1, hf2, hf3⟩ := xm_cok ci r hc0
    have hts := xm_hts hG hW args
    have hK := xm_Ks hG hW
    have hap := xm_apart hts hf1 (fun k => (parseFieldDescriptor (r.2.1 k).2.2.1).getD .int) (fun k hk => by obtain ⟨z, hz⟩ := Option.isSome_iff_exists.mp (hf3 k hk); rw [hz]; rfl) hf2 hK hc0
    obtain ⟨r', h1, hlen, cell, q1, q2, q3, q4⟩ := (hR.1 _ _ _ ha).1
    have hr' : r' = r := Option.some.inj (h1.symm.trans hc0)
    subst hr'
    obtain ⟨hS2, hfc, kC, hkC, hkind⟩ := hK.1 ci _ hc0
    obtain ⟨cf, kfl, fi, f, hi, hsl⟩ := hS2 kf hk0
    have hlay := hts _ (hf1 _ (u_in_lay hk0))
    unfold u_lay at hlay
    rw [if_neg (by rw [hfin]; decide)] at hlay
    have hst := (u_facts hfc hkC (u_lays hts hf1 hk0) hi).1
    have h6 := u_store hfc hkC hkind hlay hi hty hn hfit
    refine W.putK hx hb (f := f) ⟨ho, hts _ hl0, ⟨_, _, _, (u_same (xm_hts hG hW args _ hsf) _ hi)⟩, hst⟩ (by rw [q2]; exact h6) q1 q3 (by rw [hsl]; exact k2_hasslot (q4 kf hk0)) rfl rfl hd fun H' e1 e2 e3 => ?_
    rw [hsl] at e1 ⊢
    have hA : xm_A g _ := (hR.1 _ _ _ ha).2 rfl
    exact hk _ _ _ _ _ _ H lsA H' _ cells slots hl (hR.put ha ⟨r', hc0, by rw [List.length_set]; exact hlen, t_OB.to (V := updV (vp_V fs) kf _) ⟨_, e1, q2, q3, t_set q4 hap hk0 _⟩ (fun j _ => vp_updV_set (by rw [hlen]; exact hk0) _ j)⟩ e2 e3) (hS.put e2 e3 hA) hc hs
  · exact H.elim
theorem xs_putF (hG : xm_Gw g) (hΓ : xm_ok g Γ M d Q X) {ci kf index : Nat} {r : vw_C} {ty : FieldType} (hc0 : xm_cl[ci]? = some r) (hk0 : kf < r.2.2) (hfin : (r.2.1 kf).2.2.2 = true) (hin2 : M.1.name = "<init>") (hdecl : (r.2.1 kf).1 = M.1.cls) (hty : parseFieldDescriptor (r.2.1 kf).2.2.1 = some ty) (hl0 : Cond.fieldLink M.1.cls index (r.2.1 kf).1 (r.2.1 kf).2.1 (r.2.1 kf).2.2.1 ∈ lw_all) (hd : decode M.2.1 pc = .ok (.putfield index, 3)) : xm_Imp g Γ pc (xi_put ci kf ty (pc + 3)) := by
  obtain ⟨p, e, R, s, m, args, below, meth, c, Qf⟩ := Γ
  obtain ⟨hx, hb, hml, hr, ho, hnm, hlk, htb, hW, hB0, hRf, hRl, hQf⟩ := hΓ
  intro ls st h bc bs k hk H lsA Hp locs cells slots hl hR hS hc hs
  unfold xi_put at H
  split at H
  · obtain ⟨fs, ha, ⟨hn, hfit⟩, H⟩ := H
    obtain ⟨hf1, hf2, hf3⟩ := xm_cok ci r hc0
    have hts := xm_hts hG hW args
    have hK := xm_Ks hG hW
    have hap := xm_apart hts hf1 (fun k => (parseFieldDescriptor (r.2.1 k).2.2.1).getD .int) (fun k hk => by obtain ⟨z, hz⟩ := Option.isSome_iff_exists.mp (hf3 k hk); rw [hz]; rfl) hf2 hK hc0
    obtain ⟨r', h1, hlen, cell, q1, q2, q3, q4⟩ := (hR.1 _ _ _ ha).1
    have hr' : r' = r := Option.some.inj (h1.symm.trans hc0)
    subst hr'
    obtain ⟨hS2, hfc, kC, hkC, hkind⟩ := hK.1 ci _ hc0
    obtain ⟨cf, kfl, fi, f, hi, hsl⟩ := hS2 kf hk0
    have hlay := hts _ (hf1 _ (u_in_lay hk0))
    unfold u_lay at hlay
    rw [if_pos hfin] at hlay
    have hst := (u_facts hfc hkC (u_lays hts hf1 hk0) hi).1
    have hcf : m.cls = cf := by
      obtain ⟨_, _, c', _, _, _, -, -, hf', -, -, -, hown2, -⟩ := Cond.laysFinal_spec hlay
      have e1 : c' = cf := by have := hi.symm.trans hf'; simp at this; exact this.1.symm
      rw [hdecl] at hown2
      rw [← e1]; exact Option.some.inj (ho.symm.trans hown2)
    have h6 := u_fits hfc hkC hkind (Or.inr hlay) hi hty hn hfit
    refine W.putFinK hx hb ho (hts _ hl0) hi hst hcf (hnm.trans hin2) (by rw [q2]; exact h6) q1 q3 (by rw [hsl]; exact k2_hasslot (q4 kf hk0)) rfl rfl hd fun H' e1 e2 e3 => ?_
    rw [hsl] at e1 ⊢
    have hA : xm_A g _ := (hR.1 _ _ _ ha).2 rfl
    exact hk _ _ _ _ _ _ H lsA H' _ cells slots hl (hR.put ha ⟨r', hc0, by rw [List.length_set]; exact hlen, t_OB.to (V := updV (vp_V fs) kf _) ⟨_, e1, q2, q3, t_set q4 hap hk0 _⟩ (fun j _ => vp_updV_set (by rw [hlen]; exact hk0) _ j)⟩ e2 e3) (hS.put e2 e3 hA) hc hs
  · exact H.elim
theorem xs_putN (hG : xm_Gw g) (hΓ : xm_ok g Γ M d Q X) {ci kf index : Nat} {r : vw_C} {host : String} {ty : FieldType} (hc0 : xm_cl[ci]? = some r) (hk0 : kf < r.2.2) (hfin : (r.2.1 kf).2.2.2 = false) (hty : parseFieldDescriptor (r.2.1 kf).2.2.1 = some ty) (hl0 : Cond.fieldLinkNest M.1.cls index (r.2.1 kf).1 (r.2.1 kf).2.1 (r.2.1 kf).2.2.1 host ∈ lw_tbl) (hd : decode M.2.1 pc = .ok (.putfield index, 3)) : xm_Imp g Γ pc (xi_put ci kf ty (pc + 3)) := by
  obtain ⟨p, e, R, s, m, args, below, meth, c, Qf⟩ := Γ
  obtain ⟨hx, hb, hml, hr, ho, hnm, hlk, htb, hW, hB0, hRf, hRl, hQf⟩ := hΓ
  intro ls st h bc bs k hk H lsA Hp locs cells slots hl hR hS hc hs
  unfold xi_put at H
  split at H
  · obtain ⟨fs, ha, ⟨hn, hfit⟩, H⟩ := H
    obtain ⟨hf1, hf2, hf3⟩ := xm_cok ci r hc0
    have hts := xm_hts hG hW args
    have hK := xm_Ks hG hW
    have hap := xm_apart hts hf1 (fun k => (parseFieldDescriptor (r.2.1 k).2.2.1).getD .int) (fun k hk => by obtain ⟨z, hz⟩ := Option.isSome_iff_exists.mp (hf3 k hk); rw [hz]; rfl) hf2 hK hc0
    obtain ⟨r', h1, hlen, cell, q1, q2, q3, q4⟩ := (hR.1 _ _ _ ha).1
    have hr' : r' = r := Option.some.inj (h1.symm.trans hc0)
    subst hr'
    obtain ⟨hS2, hfc, kC, hkC, hkind⟩ := hK.1 ci _ hc0
    obtain ⟨cf, kfl, fi, f, hi, hsl⟩ := hS2 kf hk0
    have hlay := hts _ (hf1 _ (u_in_lay hk0))
    unfold u_lay at hlay
    rw [if_neg (by rw [hfin]; decide)] at hlay
    have hst := (u_facts hfc hkC (u_lays hts hf1 hk0) hi).1
    have h6 := u_store hfc hkC hkind hlay hi hty hn hfit
    refine va_WputK hx hb ho (xm_nest hG hW args hl0) hi hst (by rw [q2]; exact h6) q1 q3 (by rw [hsl]; exact k2_hasslot (q4 kf hk0)) rfl rfl hd fun H' e1 e2 e3 => ?_
    rw [hsl] at e1 ⊢
    have hA : xm_A g _ := (hR.1 _ _ _ ha).2 rfl
    exact hk _ _ _ _ _ _ H lsA H' _ cells slots hl (hR.put ha ⟨r', hc0, by rw [List.length_set]; exact hlen, t_OB.to (V := updV (vp_V fs) kf _) ⟨_, e1, q2, q3, t_set q4 hap hk0 _⟩ (fun j _ => vp_updV_set (by rw [hlen]; exact hk0) _ j)⟩ e2 e3) (hS.put e2 e3 hA) hc hs
  · exact H.elim
def xi_ial (n : Nat) : xm_I := fun ls st h bc bs k => match st with
  | .int i :: .ref a :: r => ∃ (w : Bool) (N : Nat) (f : Nat → Int32) (j : Nat), h a = some (w, .inl (.int, N, .inl f)) ∧ i = nI j ∧ (j < N ∧ N < 2 ^ 31) ∧ k n ls (.int (f j) :: r) h bc bs
  | _ => False
theorem xs_ial (hG : xm_Gw g) (hΓ : xm_ok g Γ M d Q X) (hd : decode M.2.1 pc = .ok (.iaload, 1)) : xm_Imp g Γ pc (xi_ial (pc + 1)) := by
  obtain ⟨p, e, R, s, m, args, below, meth, c, Qf⟩ := Γ
  obtain ⟨hx, hb, hml, hr, ho, hnm, hlk, htb, hW, hB0, hRf, hRl, hQf⟩ := hΓ
  intro ls st h bc bs k hk H lsA Hp locs cells slots hl hR hS hc hs
  unfold xi_ial at H
  split at H
  · obtain ⟨w, N, f, j, ha, rfl, ⟨hj, hN⟩, H⟩ := H
    obtain ⟨hty, cell, q1, q2, q3, -, -, q4, -, q5⟩ := xm_rdA hG hW (hR.1 _ _ _ ha).1
    have hjn : (nI j).toNatClampNeg = j := nI_clamp (by omega)
    exact W.iald (v := .int (f j)) hx hb q1 q2 q3 (xm_hin hj hN q4) (by rw [hjn]; exact q5 j hj) rfl rfl hd (hk _ _ _ _ _ _ H lsA Hp locs cells slots hl hR hS hc hs)
  · exact H.elim
def xi_bal (n : Nat) : xm_I := fun ls st h bc bs k => match st with
  | .int i :: .ref a :: r => ∃ (w : Bool) (N : Nat) (f : Nat → Int32) (j : Nat), h a = some (w, .inl (.byte, N, .inl f)) ∧ i = nI j ∧ (j < N ∧ N < 2 ^ 31) ∧ k n ls (.int (f j) :: r) h bc bs
  | _ => False
theorem xs_bal (hG : xm_Gw g) (hΓ : xm_ok g Γ M d Q X) (hd : decode M.2.1 pc = .ok (.baload, 1)) : xm_Imp g Γ pc (xi_bal (pc + 1)) := by
  obtain ⟨p, e, R, s, m, args, below, meth, c, Qf⟩ := Γ
  obtain ⟨hx, hb, hml, hr, ho, hnm, hlk, htb, hW, hB0, hRf, hRl, hQf⟩ := hΓ
  intro ls st h bc bs k hk H lsA Hp locs cells slots hl hR hS hc hs
  unfold xi_bal at H
  split at H
  · obtain ⟨w, N, f, j, ha, rfl, ⟨hj, hN⟩, H⟩ := H
    obtain ⟨hty, cell, q1, q2, q3, -, -, q4, -, q5⟩ := xm_rdA hG hW (hR.1 _ _ _ ha).1
    have hjn : (nI j).toNatClampNeg = j := nI_clamp (by omega)
    exact W.bald (v := .int (f j)) hx hb q1 q2 q3 (xm_hin hj hN q4) (by rw [hjn]; exact q5 j hj) rfl rfl hd (hk _ _ _ _ _ _ H lsA Hp locs cells slots hl hR hS hc hs)
  · exact H.elim
def xi_zal (n : Nat) : xm_I := fun ls st h bc bs k => match st with
  | .int i :: .ref a :: r => ∃ (w : Bool) (N : Nat) (f : Nat → Int32) (j : Nat), h a = some (w, .inl (.boolean, N, .inl f)) ∧ i = nI j ∧ (j < N ∧ N < 2 ^ 31) ∧ k n ls (.int (f j) :: r) h bc bs
  | _ => False
theorem xs_zal (hG : xm_Gw g) (hΓ : xm_ok g Γ M d Q X) (hd : decode M.2.1 pc = .ok (.baload, 1)) : xm_Imp g Γ pc (xi_zal (pc + 1)) := by
  obtain ⟨p, e, R, s, m, args, below, meth, c, Qf⟩ := Γ
  obtain ⟨hx, hb, hml, hr, ho, hnm, hlk, htb, hW, hB0, hRf, hRl, hQf⟩ := hΓ
  intro ls st h bc bs k hk H lsA Hp locs cells slots hl hR hS hc hs
  unfold xi_zal at H
  split at H
  · obtain ⟨w, N, f, j, ha, rfl, ⟨hj, hN⟩, H⟩ := H
    obtain ⟨hty, cell, q1, q2, q3, -, -, q4, -, q5⟩ := xm_rdA hG hW (hR.1 _ _ _ ha).1
    have hjn : (nI j).toNatClampNeg = j := nI_clamp (by omega)
    exact W.zald (v := .int (f j)) hx hb q1 q2 q3 (xm_hin hj hN q4) (by rw [hjn]; exact q5 j hj) rfl rfl hd (hk _ _ _ _ _ _ H lsA Hp locs cells slots hl hR hS hc hs)
  · exact H.elim
def xi_lal (n : Nat) : xm_I := fun ls st h bc bs k => match st with
  | .int i :: .ref a :: r => ∃ (w : Bool) (N : Nat) (f : Nat → Int64) (j : Nat), h a = some (w, .inl (.long, N, .inr (.inl f))) ∧ i = nI j ∧ (j < N ∧ N < 2 ^ 31) ∧ k n ls (.long (f j) :: r) h bc bs
  | _ => False
theorem xs_lal (hG : xm_Gw g) (hΓ : xm_ok g Γ M d Q X) (hd : decode M.2.1 pc = .ok (.laload, 1)) : xm_Imp g Γ pc (xi_lal (pc + 1)) := by
  obtain ⟨p, e, R, s, m, args, below, meth, c, Qf⟩ := Γ
  obtain ⟨hx, hb, hml, hr, ho, hnm, hlk, htb, hW, hB0, hRf, hRl, hQf⟩ := hΓ
  intro ls st h bc bs k hk H lsA Hp locs cells slots hl hR hS hc hs
  unfold xi_lal at H
  split at H
  · obtain ⟨w, N, f, j, ha, rfl, ⟨hj, hN⟩, H⟩ := H
    obtain ⟨hty, cell, q1, q2, q3, -, -, q4, -, q5⟩ := xm_rdA hG hW (hR.1 _ _ _ ha).1
    have hjn : (nI j).toNatClampNeg = j := nI_clamp (by omega)
    exact W.lald (v := .long (f j)) hx hb q1 q2 q3 (xm_hin hj hN q4) (by rw [hjn]; exact q5 j hj) rfl rfl hd (hk _ _ _ _ _ _ H lsA Hp locs cells slots hl hR hS hc hs)
  · exact H.elim
def xi_dal (n : Nat) : xm_I := fun ls st h bc bs k => match st with
  | .int i :: .ref a :: r => ∃ (w : Bool) (N : Nat) (f : Nat → UInt64) (j : Nat), h a = some (w, .inl (.double, N, .inr (.inr (.inr (.inl f))))) ∧ i = nI j ∧ (j < N ∧ N < 2 ^ 31) ∧ k n ls (.double (f j) :: r) h bc bs
  | _ => False
theorem xs_dal (hG : xm_Gw g) (hΓ : xm_ok g Γ M d Q X) (hd : decode M.2.1 pc = .ok (.daload, 1)) : xm_Imp g Γ pc (xi_dal (pc + 1)) := by
  obtain ⟨p, e, R, s, m, args, below, meth, c, Qf⟩ := Γ
  obtain ⟨hx, hb, hml, hr, ho, hnm, hlk, htb, hW, hB0, hRf, hRl, hQf⟩ := hΓ
  intro ls st h bc bs k hk H lsA Hp locs cells slots hl hR hS hc hs
  unfold xi_dal at H
  split at H
  · obtain ⟨w, N, f, j, ha, rfl, ⟨hj, hN⟩, H⟩ := H
    obtain ⟨hty, cell, q1, q2, q3, -, -, q4, -, q5⟩ := xm_rdA hG hW (hR.1 _ _ _ ha).1
    have hjn : (nI j).toNatClampNeg = j := nI_clamp (by omega)
    exact W.dald (v := .double (f j)) hx hb q1 q2 q3 (xm_hin hj hN q4) (by rw [hjn]; exact q5 j hj) rfl rfl hd (hk _ _ _ _ _ _ H lsA Hp locs cells slots hl hR hS hc hs)
  · exact H.elim
def xi_cal (n : Nat) : xm_I := fun ls st h bc bs k => match st with
  | .int i :: .ref a :: r => ∃ (w : Bool) (N : Nat) (f : Nat → Int32) (j : Nat), h a = some (w, .inl (.char, N, .inl f)) ∧ i = nI j ∧ (j < N ∧ N < 2 ^ 31) ∧ k n ls (.int (f j) :: r) h bc bs
  | _ => False
theorem xs_cal (hG : xm_Gw g) (hΓ : xm_ok g Γ M d Q X) (hd : decode M.2.1 pc = .ok (.caload, 1)) : xm_Imp g Γ pc (xi_cal (pc + 1)) := by
  obtain ⟨p, e, R, s, m, args, below, meth, c, Qf⟩ := Γ
  obtain ⟨hx, hb, hml, hr, ho, hnm, hlk, htb, hW, hB0, hRf, hRl, hQf⟩ := hΓ
  intro ls st h bc bs k hk H lsA Hp locs cells slots hl hR hS hc hs
  unfold xi_cal at H
  split at H
  · obtain ⟨w, N, f, j, ha, rfl, ⟨hj, hN⟩, H⟩ := H
    obtain ⟨hty, cell, q1, q2, q3, -, -, q4, -, q5⟩ := xm_rdA hG hW (hR.1 _ _ _ ha).1
    have hjn : (nI j).toNatClampNeg = j := nI_clamp (by omega)
    exact W.cald (v := .int (f j)) hx hb q1 q2 q3 (xm_hin hj hN q4) (by rw [hjn]; exact q5 j hj) rfl rfl hd (hk _ _ _ _ _ _ H lsA Hp locs cells slots hl hR hS hc hs)
  · exact H.elim
def xi_sal (n : Nat) : xm_I := fun ls st h bc bs k => match st with
  | .int i :: .ref a :: r => ∃ (w : Bool) (N : Nat) (f : Nat → Int32) (j : Nat), h a = some (w, .inl (.short, N, .inl f)) ∧ i = nI j ∧ (j < N ∧ N < 2 ^ 31) ∧ k n ls (.int (f j) :: r) h bc bs
  | _ => False
theorem xs_sal (hG : xm_Gw g) (hΓ : xm_ok g Γ M d Q X) (hd : decode M.2.1 pc = .ok (.saload, 1)) : xm_Imp g Γ pc (xi_sal (pc + 1)) := by
  obtain ⟨p, e, R, s, m, args, below, meth, c, Qf⟩ := Γ
  obtain ⟨hx, hb, hml, hr, ho, hnm, hlk, htb, hW, hB0, hRf, hRl, hQf⟩ := hΓ
  intro ls st h bc bs k hk H lsA Hp locs cells slots hl hR hS hc hs
  unfold xi_sal at H
  split at H
  · obtain ⟨w, N, f, j, ha, rfl, ⟨hj, hN⟩, H⟩ := H
    obtain ⟨hty, cell, q1, q2, q3, -, -, q4, -, q5⟩ := xm_rdA hG hW (hR.1 _ _ _ ha).1
    have hjn : (nI j).toNatClampNeg = j := nI_clamp (by omega)
    exact W.sald (v := .int (f j)) hx hb q1 q2 q3 (xm_hin hj hN q4) (by rw [hjn]; exact q5 j hj) rfl rfl hd (hk _ _ _ _ _ _ H lsA Hp locs cells slots hl hR hS hc hs)
  · exact H.elim
def xi_ias (n : Nat) : xm_I := fun ls st h bc bs k => match st with
  | .int x :: .int i :: .ref a :: r => ∃ (N : Nat) (f : Nat → Int32) (j : Nat), h a = some (true, .inl (.int, N, .inl f)) ∧ i = nI j ∧ (j < N ∧ N < 2 ^ 31) ∧ k n ls r (xm_up h a (.inl (.int, N, .inl (va_up f j (x))))) bc bs
  | _ => False
theorem xs_ias (hG : xm_Gw g) (hΓ : xm_ok g Γ M d Q X) (hd : decode M.2.1 pc = .ok (.iastore, 1)) : xm_Imp g Γ pc (xi_ias (pc + 1)) := by
  obtain ⟨p, e, R, s, m, args, below, meth, c, Qf⟩ := Γ
  obtain ⟨hx, hb, hml, hr, ho, hnm, hlk, htb, hW, hB0, hRf, hRl, hQf⟩ := hΓ
  intro ls st h bc bs k hk H lsA Hp locs cells slots hl hR hS hc hs
  unfold xi_ias at H
  split at H
  · next x i a r =>
    obtain ⟨N, f, j, ha, rfl, ⟨hj, hN⟩, H⟩ := H
    skip
    obtain ⟨hty, hcell⟩ := (hR.1 _ _ _ ha).1
    have hjn : (nI j).toNatClampNeg = j := nI_clamp (by omega)
    refine W.iast hx hb hcell ((xm_arr (xm_Ks hG hW) hty).1 N (fun j => .int (f j))) (fun q => by cases q) (by show ¬ (_ ∨ (arrV _ _ _).slots.size ≤ _); rw [arrV_size]; exact vp_in_nI hj hN) rfl rfl hd fun H' e1 e2 e3 => ?_
    have hA : xm_A g a := (hR.1 _ _ _ ha).2 rfl
    refine hk _ _ _ _ _ _ H lsA H' _ cells slots hl (hR.put ha ⟨hty, ?_⟩ e2 e3) (hS.put e2 e3 hA) hc hs
    rw [e1, hjn, vp_cell_i, vp_cell_i, arrV_store]
    skip
    congr 2
    funext q
    by_cases hq : q = j
    · subst hq
      simp [updV, va_up]
    · simp [updV, va_up, hq]
  · exact H.elim
def xi_bas (n : Nat) : xm_I := fun ls st h bc bs k => match st with
  | .int x :: .int i :: .ref a :: r => ∃ (N : Nat) (f : Nat → Int32) (j : Nat), h a = some (true, .inl (.byte, N, .inl f)) ∧ i = nI j ∧ (j < N ∧ N < 2 ^ 31) ∧ k n ls r (xm_up h a (.inl (.byte, N, .inl (va_up f j (x.toInt8.toInt32))))) bc bs
  | _ => False
theorem xs_bas (hG : xm_Gw g) (hΓ : xm_ok g Γ M d Q X) (hd : decode M.2.1 pc = .ok (.bastore, 1)) : xm_Imp g Γ pc (xi_bas (pc + 1)) := by
  obtain ⟨p, e, R, s, m, args, below, meth, c, Qf⟩ := Γ
  obtain ⟨hx, hb, hml, hr, ho, hnm, hlk, htb, hW, hB0, hRf, hRl, hQf⟩ := hΓ
  intro ls st h bc bs k hk H lsA Hp locs cells slots hl hR hS hc hs
  unfold xi_bas at H
  split at H
  · next x i a r =>
    obtain ⟨N, f, j, ha, rfl, ⟨hj, hN⟩, H⟩ := H
    skip
    obtain ⟨hty, hcell⟩ := (hR.1 _ _ _ ha).1
    have hjn : (nI j).toNatClampNeg = j := nI_clamp (by omega)
    refine W.bast hx hb hcell ((xm_arr (xm_Ks hG hW) hty).1 N (fun j => .int (f j))) (fun q => by cases q) (by show ¬ (_ ∨ (arrV _ _ _).slots.size ≤ _); rw [arrV_size]; exact vp_in_nI hj hN) rfl rfl hd fun H' e1 e2 e3 => ?_
    have hA : xm_A g a := (hR.1 _ _ _ ha).2 rfl
    refine hk _ _ _ _ _ _ H lsA H' _ cells slots hl (hR.put ha ⟨hty, ?_⟩ e2 e3) (hS.put e2 e3 hA) hc hs
    rw [e1, hjn, vp_cell_i, vp_cell_i, arrV_store]
    skip
    congr 2
    funext q
    by_cases hq : q = j
    · subst hq
      simp [updV, va_up, narrow_byte]
    · simp [updV, va_up, hq]
  · exact H.elim
def xi_zas (n : Nat) : xm_I := fun ls st h bc bs k => match st with
  | .int x :: .int i :: .ref a :: r => ∃ (N : Nat) (f : Nat → Int32) (j : Nat), h a = some (true, .inl (.boolean, N, .inl f)) ∧ i = nI j ∧ (j < N ∧ N < 2 ^ 31) ∧ narrow .boolean (.int x) = .int x ∧ k n ls r (xm_up h a (.inl (.boolean, N, .inl (va_up f j (x))))) bc bs
  | _ => False
theorem xs_zas (hG : xm_Gw g) (hΓ : xm_ok g Γ M d Q X) (hd : decode M.2.1 pc = .ok (.bastore, 1)) : xm_Imp g Γ pc (xi_zas (pc + 1)) := by
  obtain ⟨p, e, R, s, m, args, below, meth, c, Qf⟩ := Γ
  obtain ⟨hx, hb, hml, hr, ho, hnm, hlk, htb, hW, hB0, hRf, hRl, hQf⟩ := hΓ
  intro ls st h bc bs k hk H lsA Hp locs cells slots hl hR hS hc hs
  unfold xi_zas at H
  split at H
  · next x i a r =>
    obtain ⟨N, f, j, ha, rfl, ⟨hj, hN⟩, H⟩ := H
    obtain ⟨hnr, H⟩ := H
    obtain ⟨hty, hcell⟩ := (hR.1 _ _ _ ha).1
    have hjn : (nI j).toNatClampNeg = j := nI_clamp (by omega)
    refine W.zast hx hb hcell ((xm_arr (xm_Ks hG hW) hty).1 N (fun j => .int (f j))) (fun q => by cases q) (by show ¬ (_ ∨ (arrV _ _ _).slots.size ≤ _); rw [arrV_size]; exact vp_in_nI hj hN) rfl rfl hd fun H' e1 e2 e3 => ?_
    have hA : xm_A g a := (hR.1 _ _ _ ha).2 rfl
    refine hk _ _ _ _ _ _ H lsA H' _ cells slots hl (hR.put ha ⟨hty, ?_⟩ e2 e3) (hS.put e2 e3 hA) hc hs
    rw [e1, hjn, vp_cell_i, vp_cell_i, arrV_store]
    rw [hnr]
    congr 2
    funext q
    by_cases hq : q = j
    · subst hq
      simp [updV, va_up]
    · simp [updV, va_up, hq]
  · exact H.elim
def xi_las (n : Nat) : xm_I := fun ls st h bc bs k => match st with
  | .long x :: .int i :: .ref a :: r => ∃ (N : Nat) (f : Nat → Int64) (j : Nat), h a = some (true, .inl (.long, N, .inr (.inl f))) ∧ i = nI j ∧ (j < N ∧ N < 2 ^ 31) ∧ k n ls r (xm_up h a (.inl (.long, N, .inr (.inl (va_up f j (x)))))) bc bs
  | _ => False
theorem xs_las (hG : xm_Gw g) (hΓ : xm_ok g Γ M d Q X) (hd : decode M.2.1 pc = .ok (.lastore, 1)) : xm_Imp g Γ pc (xi_las (pc + 1)) := by
  obtain ⟨p, e, R, s, m, args, below, meth, c, Qf⟩ := Γ
  obtain ⟨hx, hb, hml, hr, ho, hnm, hlk, htb, hW, hB0, hRf, hRl, hQf⟩ := hΓ
  intro ls st h bc bs k hk H lsA Hp locs cells slots hl hR hS hc hs
  unfold xi_las at H
  split at H
  · next x i a r =>
    obtain ⟨N, f, j, ha, rfl, ⟨hj, hN⟩, H⟩ := H
    skip
    obtain ⟨hty, hcell⟩ := (hR.1 _ _ _ ha).1
    have hjn : (nI j).toNatClampNeg = j := nI_clamp (by omega)
    refine W.last hx hb hcell ((xm_arr (xm_Ks hG hW) hty).1 N (fun j => .long (f j))) (fun q => by cases q) (by show ¬ (_ ∨ (arrV _ _ _).slots.size ≤ _); rw [arrV_size]; exact vp_in_nI hj hN) rfl rfl hd fun H' e1 e2 e3 => ?_
    have hA : xm_A g a := (hR.1 _ _ _ ha).2 rfl
    refine hk _ _ _ _ _ _ H lsA H' _ cells slots hl (hR.put ha ⟨hty, ?_⟩ e2 e3) (hS.put e2 e3 hA) hc hs
    rw [e1, hjn, vp_cell_l, vp_cell_l, arrV_store]
    skip
    congr 2
    funext q
    by_cases hq : q = j
    · subst hq
      simp [updV, va_up]
    · simp [updV, va_up, hq]
  · exact H.elim
def xi_das (n : Nat) : xm_I := fun ls st h bc bs k => match st with
  | .double x :: .int i :: .ref a :: r => ∃ (N : Nat) (f : Nat → UInt64) (j : Nat), h a = some (true, .inl (.double, N, .inr (.inr (.inr (.inl f))))) ∧ i = nI j ∧ (j < N ∧ N < 2 ^ 31) ∧ k n ls r (xm_up h a (.inl (.double, N, .inr (.inr (.inr (.inl (va_up f j (x)))))))) bc bs
  | _ => False
theorem xs_das (hG : xm_Gw g) (hΓ : xm_ok g Γ M d Q X) (hd : decode M.2.1 pc = .ok (.dastore, 1)) : xm_Imp g Γ pc (xi_das (pc + 1)) := by
  obtain ⟨p, e, R, s, m, args, below, meth, c, Qf⟩ := Γ
  obtain ⟨hx, hb, hml, hr, ho, hnm, hlk, htb, hW, hB0, hRf, hRl, hQf⟩ := hΓ
  intro ls st h bc bs k hk H lsA Hp locs cells slots hl hR hS hc hs
  unfold xi_das at H
  split at H
  · next x i a r =>
    obtain ⟨N, f, j, ha, rfl, ⟨hj, hN⟩, H⟩ := H
    skip
    obtain ⟨hty, hcell⟩ := (hR.1 _ _ _ ha).1
    have hjn : (nI j).toNatClampNeg = j := nI_clamp (by omega)
    refine W.dast hx hb hcell ((xm_arr (xm_Ks hG hW) hty).1 N (fun j => .double (f j))) (fun q => by cases q) (by show ¬ (_ ∨ (arrV _ _ _).slots.size ≤ _); rw [arrV_size]; exact vp_in_nI hj hN) rfl rfl hd fun H' e1 e2 e3 => ?_
    have hA : xm_A g a := (hR.1 _ _ _ ha).2 rfl
    refine hk _ _ _ _ _ _ H lsA H' _ cells slots hl (hR.put ha ⟨hty, ?_⟩ e2 e3) (hS.put e2 e3 hA) hc hs
    rw [e1, hjn, vp_cell_d, vp_cell_d, arrV_store]
    skip
    congr 2
    funext q
    by_cases hq : q = j
    · subst hq
      simp [updV, va_up]
    · simp [updV, va_up, hq]
  · exact H.elim
def xi_cas (n : Nat) : xm_I := fun ls st h bc bs k => match st with
  | .int x :: .int i :: .ref a :: r => ∃ (N : Nat) (f : Nat → Int32) (j : Nat), h a = some (true, .inl (.char, N, .inl f)) ∧ i = nI j ∧ (j < N ∧ N < 2 ^ 31) ∧ k n ls r (xm_up h a (.inl (.char, N, .inl (va_up f j ((x.toUInt32 % 65536).toInt32))))) bc bs
  | _ => False
theorem xs_cas (hG : xm_Gw g) (hΓ : xm_ok g Γ M d Q X) (hd : decode M.2.1 pc = .ok (.castore, 1)) : xm_Imp g Γ pc (xi_cas (pc + 1)) := by
  obtain ⟨p, e, R, s, m, args, below, meth, c, Qf⟩ := Γ
  obtain ⟨hx, hb, hml, hr, ho, hnm, hlk, htb, hW, hB0, hRf, hRl, hQf⟩ := hΓ
  intro ls st h bc bs k hk H lsA Hp locs cells slots hl hR hS hc hs
  unfold xi_cas at H
  split at H
  · next x i a r =>
    obtain ⟨N, f, j, ha, rfl, ⟨hj, hN⟩, H⟩ := H
    skip
    obtain ⟨hty, hcell⟩ := (hR.1 _ _ _ ha).1
    have hjn : (nI j).toNatClampNeg = j := nI_clamp (by omega)
    refine W.cast hx hb hcell ((xm_arr (xm_Ks hG hW) hty).1 N (fun j => .int (f j))) (fun q => by cases q) (by show ¬ (_ ∨ (arrV _ _ _).slots.size ≤ _); rw [arrV_size]; exact vp_in_nI hj hN) rfl rfl hd fun H' e1 e2 e3 => ?_
    have hA : xm_A g a := (hR.1 _ _ _ ha).2 rfl
    refine hk _ _ _ _ _ _ H lsA H' _ cells slots hl (hR.put ha ⟨hty, ?_⟩ e2 e3) (hS.put e2 e3 hA) hc hs
    rw [e1, hjn, vp_cell_i, vp_cell_i, arrV_store]
    skip
    congr 2
    funext q
    by_cases hq : q = j
    · subst hq
      simp [updV, va_up, pk_nc, narrow]
    · simp [updV, va_up, hq]
  · exact H.elim
def xi_len (n : Nat) : xm_I := fun ls st h bc bs k => match st with
  | .ref a :: r => ∃ (w : Bool) (ty : FieldType) (A : vp_A), h a = some (w, .inl (ty, A)) ∧ k n ls (.int (nI A.1) :: r) h bc bs
  | _ => False
theorem xs_len (hG : xm_Gw g) (hΓ : xm_ok g Γ M d Q X) (hd : decode M.2.1 pc = .ok (.arraylength, 1)) : xm_Imp g Γ pc (xi_len (pc + 1)) := by
  obtain ⟨p, e, R, s, m, args, below, meth, c, Qf⟩ := Γ
  obtain ⟨hx, hb, hml, hr, ho, hnm, hlk, htb, hW, hB0, hRf, hRl, hQf⟩ := hΓ
  intro ls st h bc bs k hk H lsA Hp locs cells slots hl hR hS hc hs
  unfold xi_len at H
  split at H
  · obtain ⟨w, ty, A, ha, H⟩ := H
    obtain ⟨hty, cell, q1, q2, q3, -, -, q4, q6, q5⟩ := xm_rdA hG hW (hR.1 _ _ _ ha).1
    exact W.alen (n := nI A.1) hx hb q1 q2 q6 rfl rfl hd (hk _ _ _ _ _ _ H lsA Hp locs cells slots hl hR hS hc hs)
  · exact H.elim
def xi_aal (C : String) (n : Nat) : xm_I := fun ls st h bc bs k => match st with
  | .int i :: .ref a :: r => ∃ (w : Bool) (N : Nat) (f : Nat → Option Nat) (j : Nat) (o : Option Nat), h a = some (w, .inl (.object C, N, .inr (.inr (.inr (.inr f))))) ∧ i = nI j ∧ (j < N ∧ N < 2 ^ 31) ∧ f j = o ∧ k n ls (va_rf o :: r) h bc bs
  | _ => False
theorem xs_aal (hG : xm_Gw g) (hΓ : xm_ok g Γ M d Q X) {C : String} (hd : decode M.2.1 pc = .ok (.aaload, 1)) : xm_Imp g Γ pc (xi_aal C (pc + 1)) := by
  obtain ⟨p, e, R, s, m, args, below, meth, c, Qf⟩ := Γ
  obtain ⟨hx, hb, hml, hr, ho, hnm, hlk, htb, hW, hB0, hRf, hRl, hQf⟩ := hΓ
  intro ls st h bc bs k hk H lsA Hp locs cells slots hl hR hS hc hs
  unfold xi_aal at H
  split at H
  · obtain ⟨w, N, f, j, o, ha, rfl, ⟨hj, hN⟩, rfl, H⟩ := H
    obtain ⟨hty, cell, q1, q2, q3, -, -, q4, -, q5⟩ := xm_rdA hG hW (hR.1 _ _ _ ha).1
    have hjn : (nI j).toNatClampNeg = j := nI_clamp (by omega)
    exact W.aald (v := va_rf (f j)) (ty := .object C) hx hb q1 q2 rfl q3 (xm_hin hj hN q4) (by rw [hjn]; exact q5 j hj) rfl rfl hd (hk _ _ _ _ _ _ H lsA Hp locs cells slots hl hR hS hc hs)
  · exact H.elim
end XS3
