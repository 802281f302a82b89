/-! INSTRUCTIONS: Object.<init>; helpers for the printed rows -/
set_option maxRecDepth 100000
theorem xm_in {T : String} (i : Nat) {r : vw_C} (h : xm_cl[i]? = some r) (e : r.1 = T := by rfl) : ∃ r ∈ xm_cl, r.1 = T := ⟨r, List.mem_of_getElem? h, e⟩
theorem xm_df {ty : Nat → FieldType} {fs : List Value} (n : Nat) (h : (List.range n).all (fun j => decide (defaultValue (ty j) = vp_V fs j)) = true) : ∀ j, j < n → defaultValue (ty j) = vp_V fs j := fun j hj => of_decide_eq_true (List.all_eq_true.mp h j (List.mem_range.mpr hj))
def xm_zi (A : vp_A) : Prop := A.2 = .inl (fun _ => 0)
def xm_zl (A : vp_A) : Prop := A.2 = .inr (.inl (fun _ => 0))
def xm_zd (A : vp_A) : Prop := A.2 = .inr (.inr (.inr (.inl (fun _ => 0))))
theorem xm_zi_int (A : vp_A) (cA : ClassId) (h : xm_zi A) : vp_cell cA A = arrV cA A.1 (fun _ => defaultValue .int) := by
  obtain ⟨n, x⟩ := A
  cases (show x = .inl (fun _ => 0) from h)
  rfl
theorem xm_zi_byte (A : vp_A) (cA : ClassId) (h : xm_zi A) : vp_cell cA A = arrV cA A.1 (fun _ => defaultValue .byte) := xm_zi_int A cA h
theorem xm_zi_boolean (A : vp_A) (cA : ClassId) (h : xm_zi A) : vp_cell cA A = arrV cA A.1 (fun _ => defaultValue .boolean) := xm_zi_int A cA h
theorem xm_zi_char (A : vp_A) (cA : ClassId) (h : xm_zi A) : vp_cell cA A = arrV cA A.1 (fun _ => defaultValue .char) := xm_zi_int A cA h
theorem xm_zl_long (A : vp_A) (cA : ClassId) (h : xm_zl A) : vp_cell cA A = arrV cA A.1 (fun _ => defaultValue .long) := by
  obtain ⟨n, x⟩ := A
  cases (show x = .inr (.inl (fun _ => 0)) from h)
  rfl
theorem xm_zd_double (A : vp_A) (cA : ClassId) (h : xm_zd A) : vp_cell cA A = arrV cA A.1 (fun _ => defaultValue .double) := by
  obtain ⟨n, x⟩ := A
  cases (show x = .inr (.inr (.inr (.inl (fun _ => 0)))) from h)
  rfl
section XS6
variable {g : xm_G} {Γ : xm_C} {M : xm_M} {d : Nat} {Q : xm_P} {X : xm_X} {pc : Nat}
def xi_obj (n : Nat) : xm_I := fun ls st h bc bs k => match st with
  | .ref _ :: r => xm_stk 1 st = true ∧ k n ls r h bc bs
  | _ => False
theorem xs_obj (hG : xm_Gw g) (hΓ : xm_ok g Γ M d Q X) (hdd : Nat.ble 1 d = true) {index : Nat} (hl0 : Cond.methodLink M.1.cls index Lib.objectInit ∈ lw_all) (hd : decode M.2.1 pc = .ok (.invokespecial index, 3)) : xm_Imp g Γ pc (xi_obj (pc + 3)) := by
  obtain ⟨p, e, R, s, m, args, below, meth, c, Qf⟩ := Γ
  obtain ⟨hx, hb, hml, hr, ho, hnm, hlk, htb, hW, hB0, hRf, hRl, hQf⟩ := hΓ
  intro ls st h bc bs k hk H lsA Hp locs cells slots hl hR hS hc hs
  have hts := xm_hts hG hW args
  have hdd := Nat.le_of_ble_eq_true hdd
  unfold xi_obj at H
  split at H
  · next a r =>
    obtain ⟨hk0, H⟩ := H
    have hk2 := (xm_stk_of hk0).2
    refine W.objInit hx hb ho (hts _ hl0) (hts _ q179) (hts _ q180) rfl hl.1 rfl hd (by omega) ?_ (hk _ _ _ _ _ _ H lsA Hp locs cells slots hl hR hS hc hs)
    have : (r.map fun v => v.category).sum ≤ 8 := hk2
    show 2 * 0 + _ + 12 ≤ R.locals
    omega
  · exact H.elim
end XS6
