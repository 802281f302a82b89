/-! INSTRUCTIONS: new objects and arrays, stores of references, casts, calls -/
set_option maxRecDepth 100000
/-- the class of a known cell is the named one, or the tables say that it can be cast to it -/
def xm_sb (o : xm_E) (E : String) : Prop := match o with
  | .inr (ci, _) => ∃ r : vw_C, xm_cl[ci]? = some r ∧ (r.1 = E ∨ Cond.castable r.1 E ∈ lw_tbl)
  | .inl (ty, _) => Cond.castable ("[" ++ ty.toString) E ∈ lw_tbl
/-- the class's name of a known cell -/
def xm_nm (o : xm_E) (C : String) : Prop := match o with
  | .inr (ci, _) => ∃ r : vw_C, xm_cl[ci]? = some r ∧ r.1 = C
  | .inl (ty, _) => "[" ++ ty.toString = C
theorem xm_cell {g : xm_G} {s : State} (hG : xm_Gw g) (hW : g.2.1.WarmedH s.vm) {w : Bool} {a : Nat} {o : xm_E} {H : Heap} (h : xm_at g w a o H) {C : String} (hC : xm_nm o C) : ∃ cell : Cell, H[a]? = some cell ∧ cell.vm.isStatics = false ∧ s.vm.findClass C = some cell.cls := by
  obtain ⟨ty, A⟩ | ⟨ci, fs⟩ := o
  · obtain ⟨-, cell, q1, -, -, q3, q4, -⟩ := xm_rdA hG hW h
    exact ⟨cell, q1, q3, by rw [← show "[" ++ ty.toString = C from hC]; exact q4⟩
  · obtain ⟨r, cell, h1, h2, h3, h4, h5, -⟩ := xm_rdO h
    obtain ⟨r', h1', rfl⟩ := hC
    cases h1.symm.trans h1'
    exact ⟨cell, h3, h5, by rw [h4]; exact ((xm_Ks hG hW).1 ci r h1).2.1⟩
theorem xm_any {g : xm_G} {s : State} (hG : xm_Gw g) (hW : g.2.1.WarmedH s.vm) {w : Bool} {a : Nat} {o : xm_E} {H : Heap} (h : xm_at g w a o H) {E : String} (hE : xm_sb o E) : va_Any E s H a := by
  have hK := xm_Ks hG hW
  obtain ⟨ty, A⟩ | ⟨ci, fs⟩ := o
  · obtain ⟨cell, h1, h2, h3⟩ := xm_cell hG hW h (C := "[" ++ ty.toString) rfl
    obtain ⟨kC, hkC, -⟩ := Vm.findClass_spec h3
    refine ⟨cell, h1, h2, ⟨kC, hkC⟩, fun comp hcomp => ?_⟩
    obtain ⟨c0, t0, f1, f2, f3⟩ := Cond.castable_spec (va_Nw.use (A := #[]) rfl (xm_cst hG hW hE))
    cases h3.symm.trans f1
    cases hcomp.symm.trans f2
    exact f3
  · obtain ⟨r, hr, hE⟩ := hE
    obtain ⟨cell, h1, h2, h3⟩ := xm_cell hG hW h (C := r.1) ⟨r, hr, rfl⟩
    obtain ⟨kC, hkC, -⟩ := Vm.findClass_spec h3
    refine ⟨cell, h1, h2, ⟨kC, hkC⟩, fun comp hcomp => ?_⟩
    rcases hE with rfl | hE
    · cases h3.symm.trans hcomp
      have hcl := (hK.1 ci r hr).2
      rw [Option.some.inj (h3.symm.trans hcl.1)]
      exact va_assign hcl
    · obtain ⟨c0, t0, f1, f2, f3⟩ := Cond.castable_spec (va_Nw.use (A := #[]) rfl (xm_cst hG hW hE))
      cases h3.symm.trans f1
      cases hcomp.symm.trans f2
      exact f3
theorem xm_S1 {g : xm_G} {s : State} {H H1 : Heap} {locs : List Loc} (hS : va_S (xm_A g) s.heap H locs) (z1 : H1.size = H.size + 1) (o1 : ∀ q : Nat, q < H.size → H1[q]? = H[q]?) : va_S (xm_A g) s.heap H1 locs :=
  ⟨Nat.le_trans hS.1 (by omega), fun x h1 h2 => (o1 x (Nat.lt_of_lt_of_le h1 hS.1)).trans (hS.2.1 x h1 h2), hS.2.2⟩
section XS4
variable {g : xm_G} {Γ : xm_C} {M : xm_M} {d : Nat} {Q : xm_P} {X : xm_X} {pc : Nat}
def xi_new (ci N : Nat) (fs : List Value) (n : Nat) : xm_I := fun ls st h bc bs k => (1 ≤ bc ∧ N ≤ bs) ∧ ∀ a : Nat, h a = none → k n ls (.ref a :: st) (xm_up h a (.inr (ci, fs))) (bc - 1) (bs - N)
theorem xs_new (hG : xm_Gw g) (hΓ : xm_ok g Γ M d Q X) {ci N index : Nat} {r : vw_C} {fs : List Value} (hc0 : xm_cl[ci]? = some r) (hcl : Cond.classLink M.1.cls index r.1 ∈ lw_all) (hinst : Cond.instantiable r.1 N ∈ lw_all) (hini : Cond.initialized r.1 ∈ lw_all) (hlen : fs.length = r.2.2)
    (ty : Nat → FieldType) (hty : ∀ k, k < r.2.2 → parseFieldDescriptor (r.2.1 k).2.2.1 = some (ty k)) (hfs : ∀ j, j < r.2.2 → defaultValue (ty j) = vp_V fs j) (hd : decode M.2.1 pc = .ok (.new index, 3)) : xm_Imp g Γ pc (xi_new ci N fs (pc + 3)) := by
  obtain ⟨p, e, R, s, m, args, below, meth, c, Qf⟩ := Γ
  obtain ⟨hx, hb, hml, hr, ho, hnm, hlk, htb, hW, hB0, hRf, hRl, hQf⟩ := hΓ
  intro ls st h bc bs k hk H lsA Hp locs cells slots hl hR hS hc hs
  obtain ⟨⟨h1, h2⟩, H⟩ := H
  have hts := xm_hts hG hW args
  have hKn := (xm_Ks hG hW).1 ci _ hc0
  refine W.newcK hx hb ho (hts _ hcl) (hts _ hinst) (hts _ hini) rfl hd (by omega) (by omega) hKn.2.1 rfl fun H1 kC hkC e1 z1 o1 => ?_
  exact hk _ _ _ _ _ _ (H Hp.size hR.fresh) lsA H1 locs (cells + 1) (slots + N) hl (hR.push ⟨r, hc0, hlen, (u_born ty hts (xm_cok ci r hc0).1 hKn hkC e1 hty).to hfs⟩ z1 o1) (xm_S1 hS z1 o1) (by omega) (by omega)
def xi_nea (ty : FieldType) (z : vp_A → Prop) (n : Nat) : xm_I := fun ls st h bc bs k => match st with
  | .int x :: r => ∃ (N : Nat) (A : vp_A), x = nI N ∧ (N ≤ 1048576 ∧ A.1 = N ∧ z A) ∧ (1 ≤ bc ∧ N ≤ bs) ∧ ∀ a : Nat, h a = none → k n ls (.ref a :: r) (xm_up h a (.inl (ty, A))) (bc - 1) (bs - N)
  | _ => False
theorem xs_newa (hG : xm_Gw g) (hΓ : xm_ok g Γ M d Q X) {at0 : ArrayType} {ty : FieldType} (hat : newarray.typeOf at0 = ty) (hty : ty ∈ xm_tl) (hbt : componentBytes ty ≤ 8) (z : vp_A → Prop) (hz : ∀ (A : vp_A) (cA : ClassId), z A → vp_cell cA A = arrV cA A.1 (fun _ => defaultValue ty)) (hw : Cond.arrayClass ty ∈ lw_all) (hd : decode M.2.1 pc = .ok (.newarray at0, 2)) : xm_Imp g Γ pc (xi_nea ty z (pc + 2)) := by
  obtain ⟨p, e, R, s, m, args, below, meth, c, Qf⟩ := Γ
  obtain ⟨hx, hb, hml, hr, ho, hnm, hlk, htb, hW, hB0, hRf, hRl, hQf⟩ := hΓ
  intro ls st h bc bs k hk H lsA Hp locs cells slots hl hR hS hc hs
  unfold xi_nea at H
  split at H
  · obtain ⟨N, A, rfl, ⟨hN, rfl, hzA⟩, ⟨h1, h2⟩, H⟩ := H
    subst hat
    have hcl : (nI A.1).toNatClampNeg = A.1 := nI_clamp (by omega)
    refine va_newaK hx hb (xm_hts hG hW args _ hw) rfl hd rfl (nI_pos (by omega)) hcl ?_ (by omega) (by omega) rfl fun H1 cA e1 z1 o1 hAr hNm => ?_
    · exact Nat.le_trans (Nat.mul_le_mul hN hbt) (by decide)
    · have hcA : cA = g.2.2.2 (newarray.typeOf at0) := by
        have h3 := (xm_arr (xm_Ks hG hW) hty).2
        cases at0 <;> exact Option.some.inj (hNm.symm.trans h3)
      subst hcA
      exact hk _ _ _ _ _ _ (H Hp.size hR.fresh) lsA H1 locs (cells + 1) (slots + A.1) hl (hR.push ⟨hty, by rw [e1, hz A _ hzA]⟩ z1 o1) (xm_S1 hS z1 o1) (by omega) (by omega)
  · exact H.elim
def xi_nra (C : String) (n : Nat) : xm_I := fun ls st h bc bs k => match st with
  | .int x :: r => ∃ N : Nat, x = nI N ∧ N ≤ 1048576 ∧ (1 ≤ bc ∧ N ≤ bs) ∧ ∀ a : Nat, h a = none → k n ls (.ref a :: r) (xm_up h a (.inl (.object C, N, .inr (.inr (.inr (.inr (fun _ => none))))))) (bc - 1) (bs - N)
  | _ => False
theorem xm_AO {g : xm_G} {s : State} (hG : xm_Gw g) (hW : g.2.1.WarmedH s.vm) {C : String} (h : Cond.arrayOver (.object C) ∈ lw_tbl) : va_AO C s := by
  obtain ⟨a0, h0, -⟩ := hG
  exact va_AO.moved hW.alike (va_AO.of (h0 _ h))
theorem xs_anew (hG : xm_Gw g) (hΓ : xm_ok g Γ M d Q X) {C : String} {index : Nat} (hty : FieldType.object C ∈ xm_tl) (hcl : Cond.classLink M.1.cls index C ∈ lw_all) (hov : Cond.arrayOver (.object C) ∈ lw_tbl) (hd : decode M.2.1 pc = .ok (.anewarray index, 3)) : xm_Imp g Γ pc (xi_nra C (pc + 3)) := by
  obtain ⟨p, e, R, s, m, args, below, meth, c, Qf⟩ := Γ
  obtain ⟨hx, hb, hml, hr, ho, hnm, hlk, htb, hW, hB0, hRf, hRl, hQf⟩ := hΓ
  intro ls st h bc bs k hk H lsA Hp locs cells slots hl hR hS hc hs
  unfold xi_nra at H
  split at H
  · obtain ⟨N, rfl, hN, ⟨h1, h2⟩, H⟩ := H
    have hcl2 : (nI N).toNatClampNeg = N := nI_clamp (by omega)
    refine W.anew hx hb ho (xm_hts hG hW args _ hcl) (va_AO.use (xm_AO hG hW hov)) rfl hd rfl (nI_pos (by omega)) (by rw [hcl2]; omega) (by omega) (by rw [hcl2]; omega) fun cA kA comp f1 f2 f3 f4 => ?_
    rw [hcl2]
    generalize hH1 : Hp.push ({ cls := cA, slots := Array.replicate N .null, vm := .none } : Cell) = H1
    have z1 : H1.size = Hp.size + 1 := by rw [← hH1, Array.size_push]
    have e1 : H1[Hp.size]? = some (arrV cA N (fun _ => .null)) := by rw [← hH1, Array.getElem?_push_size, ← arrV_new]
    have o1 : ∀ q : Nat, q < Hp.size → H1[q]? = Hp[q]? := fun q hq => by rw [← hH1, Array.getElem?_push, if_neg (Nat.ne_of_lt hq)]
    have hcA : cA = g.2.2.2 (.object C) := by
      obtain ⟨_, _, _, _, _, h3⟩ := (xm_arr (xm_Ks hG hW) hty).2
      exact Option.some.inj (f1.symm.trans h3)
    subst hcA
    exact hk _ _ _ _ _ _ (H Hp.size hR.fresh) lsA H1 locs (cells + 1) (slots + N) hl (hR.push ⟨hty, by rw [e1, vp_cell_q]; rfl⟩ z1 o1) (xm_S1 hS z1 o1) (by omega) (by omega)
  · exact H.elim
theorem xm_stq {cA : ClassId} {N j : Nat} {f : Nat → Option Nat} (o : Option Nat) : (vp_cell cA (N, .inr (.inr (.inr (.inr f))))).setSlot j (va_rf o) = vp_cell cA (N, .inr (.inr (.inr (.inr (va_up f j o))))) := by
  rw [vp_cell_q, vp_cell_q, arrV_store]
  congr 1
  funext q
  by_cases hq : q = j
  · subst hq
    simp [updV, va_up]
  · simp [updV, va_up, hq]
def xi_aas (C : String) (n : Nat) : xm_I := fun ls st h bc bs k => match st with
  | v :: .int i :: .ref a :: r => ∃ (N : Nat) (f : Nat → Option Nat) (j : Nat) (o : Option Nat), h a = some (true, .inl (.object C, N, .inr (.inr (.inr (.inr f))))) ∧ i = nI j ∧ (j < N ∧ N < 2 ^ 31) ∧ v = va_rf o ∧ (∀ b, o = some b → ∃ (w : Bool) (x : xm_E), h b = some (w, x) ∧ xm_sb x C) ∧ k n ls r (xm_up h a (.inl (.object C, N, .inr (.inr (.inr (.inr (va_up f j o))))))) bc bs
  | _ => False
theorem xs_aas (hG : xm_Gw g) (hΓ : xm_ok g Γ M d Q X) {C : String} (hd : decode M.2.1 pc = .ok (.aastore, 1)) : xm_Imp g Γ pc (xi_aas C (pc + 1)) := by
  obtain ⟨p, e, R, s, m, args, below, meth, c, Qf⟩ := Γ
  obtain ⟨hx, hb, hml, hr, ho, hnm, hlk, htb, hW, hB0, hRf, hRl, hQf⟩ := hΓ
  intro ls st h bc bs k hk H lsA Hp locs cells slots hl hR hS hc hs
  unfold xi_aas at H
  split at H
  · next v i a r =>
    obtain ⟨N, f, j, o, ha, rfl, ⟨hj, hN⟩, rfl, hv, H⟩ := H
    obtain ⟨hty, hcell⟩ := (hR.1 _ _ _ ha).1
    have hA : xm_A g a := (hR.1 _ _ _ ha).2 rfl
    have hjn : (nI j).toNatClampNeg = j := nI_clamp (by omega)
    have hK := xm_Ks hG hW
    cases o with
    | none =>
      refine va_WaastN (C := C) hx hb hcell ((xm_arr hK hty).1 N (fun j => va_rf (f j))) (fun h => by cases h) (by show ¬ (_ ∨ (arrV _ _ _).slots.size ≤ _); rw [arrV_size]; exact vp_in_nI hj hN) rfl rfl hd fun H' e1 e2 e3 => ?_
      exact hk _ _ _ _ _ _ H lsA H' _ cells slots hl (hR.put ha ⟨hty, by rw [e1, hjn]; exact congrArg some (xm_stq none)⟩ e2 e3) (hS.put e2 e3 hA) hc hs
    | some b =>
      obtain ⟨w, x, hb1, hsb⟩ := hv b rfl
      obtain ⟨cellV, g1, g2, ⟨kV, g3⟩, g4⟩ := xm_any hG hW (hR.1 _ _ _ hb1).1 hsb
      obtain ⟨kA, comp, k1, k2, k3, -⟩ := (xm_arr hK hty).2
      obtain ⟨kC, hkC, -⟩ := Vm.findClass_spec k3
      have hvp : vp_in (nI j) N := vp_in_nI hj hN
      refine W.aast hx hb hcell (fun q h => by cases h) (fun h => by cases h) k1 k2 rfl hkC ⟨fun z => hvp (Or.inl z), by show _ < (arrV _ _ _).slots.size; rw [arrV_size, hjn]; exact hj⟩ g1 (fun q h => by rw [h] at g2; cases g2) g3 (g4 _ k3) rfl rfl hd fun H' e1 e2 e3 => ?_
      exact hk _ _ _ _ _ _ H lsA H' _ cells slots hl (hR.put ha ⟨hty, by rw [e1, hjn]; exact congrArg some (xm_stq (some b))⟩ e2 e3) (hS.put e2 e3 hA) hc hs
  · exact H.elim
/-! casts -/
def xi_cast (T : String) (n : Nat) : xm_I := fun ls st h bc bs k => match st with
  | .null :: r => k n ls (.null :: r) h bc bs
  | .ref a :: r => ∃ (w : Bool) (o : xm_E) (C : String), h a = some (w, o) ∧ xm_nm o C ∧ (C = T ∨ Cond.castable C T ∈ lw_tbl) ∧ k n ls (.ref a :: r) h bc bs
  | _ => False
theorem xs_cast (hG : xm_Gw g) (hΓ : xm_ok g Γ M d Q X) {T : String} {index : Nat} (hT : ∃ r ∈ xm_cl, r.1 = T) (hcl : Cond.classLink M.1.cls index T ∈ lw_all) (hd : decode M.2.1 pc = .ok (.checkcast index, 3)) : xm_Imp g Γ pc (xi_cast T (pc + 3)) := by
  obtain ⟨p, e, R, s, m, args, below, meth, c, Qf⟩ := Γ
  obtain ⟨hx, hb, hml, hr, ho, hnm, hlk, htb, hW, hB0, hRf, hRl, hQf⟩ := hΓ
  intro ls st h bc bs k hk H lsA Hp locs cells slots hl hR hS hc hs
  unfold xi_cast at H
  split at H
  · exact lv_castN hx hb hd (hk _ _ _ _ _ _ H lsA Hp locs cells slots hl hR hS hc hs)
  · obtain ⟨w, o, C, ha, hC, hCT, H⟩ := H
    have hK := xm_Ks hG hW
    have hcell := xm_cell hG hW (hR.1 _ _ _ ha).1 hC
    rcases hCT with rfl | hCT
    · obtain ⟨r0, hr0, rfl⟩ := hT
      obtain ⟨ci, hci⟩ := List.getElem?_of_mem hr0
      exact va_castS hx hb ho (xm_hts hG hW args _ hcl) (hK.1 ci _ hci).2 hcell hd (hk _ _ _ _ _ _ H lsA Hp locs cells slots hl hR hS hc hs)
    · exact va_castY hx hb ho (xm_hts hG hW args _ hcl) (xm_cst hG hW hCT) hcell hd (hk _ _ _ _ _ _ H lsA Hp locs cells slots hl hR hS hc hs)
  · exact H.elim
end XS4
