/-! CALLS OF METHODS WITH HANDLERS; calls of the reference out of the law -/
set_option maxRecDepth 100000
section XLW
variable {g : xm_G} {Γ : xm_C} {M : xm_M} {d : Nat} {Q : xm_P} {X : xm_X} {pc : Nat}
theorem xs_invSW (hG : xm_Gw g) (hΓ : xm_ok g Γ M d Q X) {y : MethodName} {b : ByteArray} {L : Nat} {r : Option FieldType} {x0 : Nat × Nat × Nat × Nat} {hh : List (Nat × Nat × Nat × Nat)} {d' n index : Nat} (hm : xm_mk (y, b, L, r, x0 :: hh) n) (hdd : Nat.ble (d' + 1) d = true) (hl0 : Cond.methodLink M.1.cls index y ∈ lw_all) (hst : Cond.static y ∈ lw_all) (hd : decode M.2.1 pc = .ok (.invokestatic index, 3)) : xm_Imp g Γ pc (xi_inv g (y, b, L, r, x0 :: hh) d' n (pc + 3)) := by
  obtain ⟨p, e, R, s, m, args, below, meth, c, Qf⟩ := Γ
  obtain ⟨hx, hb, hml, hr, ho, hnm, hlk, htb, hW, hB0, hRf, hRl, hQf⟩ := hΓ
  intro ls st h bc bs k hk H lsA Hp locs cells slots hl hR hS hc hs
  have hdd : d' + 1 ≤ R.frames := by rw [hRf]; exact Nat.le_of_ble_eq_true hdd
  have hRL : R.locals = 4096 + 64 * R.frames := by rw [hRf]; exact hRl
  have hts := xm_hts hG hW args
  obtain ⟨hk0, mc, ms, ⟨h1, h2⟩, H⟩ := H
  obtain ⟨hk1, hk2⟩ := xm_stk_of hk0
  obtain ⟨m1, m2, m3, m4, m5⟩ := hm
  have m3 : L ≤ 45 := m3
  have hcw : vx_CSW R s args M.1.cls index y b L r (x0 :: hh) [xm_cw (y, b, L, r, x0 :: hh)] (xm_rm d' mc ms) mc ms n := by
    refine ⟨⟨rfl, rfl, hdd, ?_, ?_, List.mem_singleton.mpr rfl⟩, hts _ m1, hts _ m2, m4, fun sig hs => xm_par (M := (y, b, L, r, x0 :: hh)) m5 sig hs, hts _ hl0, hts _ hst⟩
    · show 8 + (L + 11) + (4096 + 64 * d') ≤ R.locals
      omega
    · intro w hw a' U hU
      rw [List.mem_singleton.mp hw]
      exact word_at hU (good_of_word (List.mem_filter.mp m1).2) (hts _ m1)
  exact xm_backX (vq_runSX (As := (st.take n).reverse) (rest := st.drop n) (nL := c.maxLocals) ⟨hx, hb, rfl, ho, hts⟩ H hcw ⟨xm_blind g _ h, xm_pre hW hR _⟩ rfl (xm_tlen hk1) hl.1 (xm_split n st) (lv_room hk2) hd ⟨by omega, by omega⟩) hl hS hc hs h1 h2 rfl (fun r h' hq => hk _ _ _ _ _ _ hq)
    (fun E q h' ce H1 locs1 hX hR1 hS1 hce hcv hcl => hX.elim)
theorem xs_invVW (hG : xm_Gw g) (hΓ : xm_ok g Γ M d Q X) {y : MethodName} {b : ByteArray} {L : Nat} {r : Option FieldType} {x0 : Nat × Nat × Nat × Nat} {hh : List (Nat × Nat × Nat × Nat)} {d' n index : Nat} (hm : xm_mk (y, b, L, r, x0 :: hh) n) (hdd : Nat.ble (d' + 1) d = true) {ci : Nat} {rr : vw_C} (hc0 : xm_cl[ci]? = some rr) (hl0 : Cond.methodLink M.1.cls index y ∈ lw_all) (hin : Cond.instanceMethod y ∈ lw_all) (hse : Cond.selects rr.1 y y ∈ lw_all) (hd : decode M.2.1 pc = .ok (.invokevirtual index, 3)) : xm_Imp g Γ pc (xi_vir g ci (y, b, L, r, x0 :: hh) d' n (pc + 3)) := by
  obtain ⟨p, e, R, s, m, args, below, meth, c, Qf⟩ := Γ
  obtain ⟨hx, hb, hml, hr, ho, hnm, hlk, htb, hW, hB0, hRf, hRl, hQf⟩ := hΓ
  intro ls st h bc bs k hk H lsA Hp locs cells slots hl hR hS hc hs
  have hdd : d' + 1 ≤ R.frames := by rw [hRf]; exact Nat.le_of_ble_eq_true hdd
  have hRL : R.locals = 4096 + 64 * R.frames := by rw [hRf]; exact hRl
  have hts := xm_hts hG hW args
  obtain ⟨hk0, H⟩ := H
  obtain ⟨hk1, hk2⟩ := xm_stk_of hk0
  split at H
  · next b0 rest hdr =>
    obtain ⟨w, fs, mc, ms, hbb, ⟨h1, h2⟩, H⟩ := H
    have hcell := xm_cell hG hW (hR.1 _ _ _ hbb).1 (C := rr.1) ⟨rr, hc0, rfl⟩
    obtain ⟨m1, m2, m3, m4, m5⟩ := hm
    have m3 : L ≤ 45 := m3
    have hcw : vx_CVW R s args M.1.cls rr.1 index y b L r (x0 :: hh) [xm_cw (y, b, L, r, x0 :: hh)] (xm_rm d' mc ms) mc ms n := by
      refine ⟨⟨rfl, rfl, hdd, ?_, ?_, List.mem_singleton.mpr rfl⟩, hts _ m1, hts _ m2, m4, fun sig hs => xm_par (M := (y, b, L, r, x0 :: hh)) m5 sig hs, hts _ hl0, hts _ hin, hts _ hse⟩
      · show 8 + (L + 11) + (4096 + 64 * d') ≤ R.locals
        omega
      · intro w hw a' U hU
        rw [List.mem_singleton.mp hw]
        exact word_at hU (good_of_word (List.mem_filter.mp m1).2) (hts _ m1)
    exact xm_backX (vq_runVX (As := (st.take n).reverse) (rest := rest) (nL := c.maxLocals) ⟨hx, hb, rfl, ho, hts⟩ H hcw ⟨xm_blind g _ h, hcell, xm_pre hW hR _⟩ rfl (xm_tlen hk1) hl.1 (xm_split2 hdr) (lv_room (xm_sum2 hdr hk2)) hd ⟨by omega, by omega⟩) hl hS hc hs h1 h2 rfl (fun r h' hq => hk _ _ _ _ _ _ hq)
      (fun E q h' ce H1 locs1 hX hR1 hS1 hce hcv hcl => hX.elim)
  · exact H.elim
end XLW
/-- the reference stands at a with σ -/
def xt_m (g : xm_G) (h : xm_H) (a : Nat) (K : (Nat → Nat) → xM_S → Prop) : Prop := ∃ (ad : Nat → Nat) (σ : xM_S), xM_ok h a ad ∧ xk_B g h ∧ h = xMp h a ad σ ∧ K ad σ
theorem xM_is {h : xm_H} {a : Nat} {ad : Nat → Nat} {σ : xM_S} (hh : h = xMp h a ad σ) : xh_is 4 h a = some () := by
  have e : h a = some (true, .inr (4, xM_fs ad σ.1)) := by
    rw [hh]
    exact xMp_m
  simp [xh_is, e]
theorem xM_run {g : xm_G} {h h' : xm_H} {a : Nat} {ad : Nat → Nat} {σ : xM_S} (hh : h = xMp h a ad σ) {M' : xm_M} {d' : Nat} {av : List Value} {r : Option Value} (hr : ∀ (Q : xm_P) (X : xm_X), Q r h' → xm_Run g M' d' av (xMp h a ad σ) 0 0 Q X) : ∀ (Q : xm_P) (X : xm_X), Q r h' → xm_Run g M' d' av h 0 0 Q X := by
  intro Q X hQ
  rw [hh]
  exact hr Q X hQ
theorem xM_run0 {g : xm_G} {h : xm_H} {a : Nat} {ad : Nat → Nat} {σ : xM_S} (hh : h = xMp h a ad σ) {M' : xm_M} {d' : Nat} {av : List Value} {r : Option Value} (hr : ∀ (Q : xm_P) (X : xm_X), Q r (xMp h a ad σ) → xm_Run g M' d' av (xMp h a ad σ) 0 0 Q X) : ∀ (Q : xm_P) (X : xm_X), Q r h → xm_Run g M' d' av h 0 0 Q X := by
  intro Q X hQ
  have hQ2 : Q r (xMp h a ad σ) := by rw [← hh]; exact hQ
  rw [hh]
  exact hr Q X hQ2
