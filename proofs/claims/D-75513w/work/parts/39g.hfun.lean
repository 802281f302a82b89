/-! METHODS ON KNOWN CELLS as functions (printed by gen/mkhfun.py) -/
set_option maxRecDepth 100000
noncomputable def F_J2_elementData (g : xm_G) (p0 : Nat) (p1 : Int32) (h : xm_H) : Option (Option Nat) :=
 xo_b (xh_fr [(12, 1)] h p0) (fun v1 =>
 xo_b v1 (fun a2 =>
 xo_b (xh_ar "java/lang/Object" h a2 p1) (fun v3 =>
 some v3)))
set_option maxHeartbeats 4000000 in
theorem K_J2_elementData {g : xm_G} (hG : xm_Gw g) (p0 : Nat) (p1 : Int32) (h : xm_H) {o : Option Nat} (e : F_J2_elementData g p0 p1 h = some o) {Q : xm_P} {X : xm_X} (hQ : Q (some (va_rf o)) h) : xm_Run g M_J2_elementData 1 [.ref p0, .int p1] h 0 0 Q X := by
  refine xm_Run.of pn_java_util_ArrayList (Nat.le_of_ble_eq_true rfl) (fun Γ hΓ => ?_)
  obtain ⟨P0, hP0, hp⟩ : ∃ P : Option Nat → Prop, (∀ o, P o → Q (some (va_rf o)) h) ∧ P o := ⟨fun o => Q (some (va_rf o)) h, fun _ h => h, hQ⟩
  clear hQ
  show xm_W g Γ 0 [some (.ref p0), some (.int p1)] [] h 0 0
  unfold F_J2_elementData at e
  refine xw_ald (show xm_Imp g Γ 0 (xi_ald 0 1) from xs_aload_n hΓ dJ2_elementData_0) rfl ?_
  obtain ⟨v1, e1, e⟩ := xo_b_s e
  refine xw_gr1 (o := (some p0)) (show xm_Imp g Γ 1 (xi_get 12 1 4) from xs_get hG hΓ (ci := 12) (kf := 1) rfl (Nat.le_of_ble_eq_true rfl) q201 dJ2_elementData_1) rfl e1 ?_
  refine xw_ild (show xm_Imp g Γ 4 (xi_ild 1 5) from xs_iload_n hΓ dJ2_elementData_4) rfl ?_
  obtain ⟨a2, ha2, e⟩ := xo_b_s e
  obtain ⟨v3, e1, e⟩ := xo_b_s e
  refine xw_haal (o := v1) (show xm_Imp g Γ 5 (xi_aal "java/lang/Object" 6) from xs_aal hG hΓ dJ2_elementData_5) ha2 e1 ?_
  have hq := hP0 _ (xl_fin e hp)
  exact xw_areto (show xm_Imp g Γ 6 (xi_aret _) from xs_areturn hΓ rfl (Or.inl ⟨_, rfl⟩) dJ2_elementData_6) hq
noncomputable def F_J2_get (g : xm_G) (p0 : Nat) (p1 : Int32) (h : xm_H) : Option (Option Nat) :=
 xo_b (xh_fi [(12, 2)] h p0) (fun v1 =>
 xo_b (F_J19_checkIndex g p1 v1 h) (fun v2 =>
 xo_b (xh_is 12 h p0) (fun _ =>
 xo_b (F_J2_elementData g p0 p1 h) (fun v3 =>
 some v3))))
set_option maxHeartbeats 4000000 in
theorem K_J2_get {g : xm_G} (hG : xm_Gw g) (p0 : Nat) (p1 : Int32) (h : xm_H) {o : Option Nat} (e : F_J2_get g p0 p1 h = some o) {Q : xm_P} {X : xm_X} (hQ : Q (some (va_rf o)) h) : xm_Run g M_J2_get 10 [.ref p0, .int p1] h 0 0 Q X := by
  refine xm_Run.of pn_java_util_ArrayList (Nat.le_of_ble_eq_true rfl) (fun Γ hΓ => ?_)
  obtain ⟨P0, hP0, hp⟩ : ∃ P : Option Nat → Prop, (∀ o, P o → Q (some (va_rf o)) h) ∧ P o := ⟨fun o => Q (some (va_rf o)) h, fun _ h => h, hQ⟩
  clear hQ
  show xm_W g Γ 0 [some (.ref p0), some (.int p1)] [] h 0 0
  unfold F_J2_get at e
  refine xw_ild (show xm_Imp g Γ 0 (xi_ild 1 1) from xs_iload_n hΓ dJ2_get_0) rfl ?_
  refine xw_ald (show xm_Imp g Γ 1 (xi_ald 0 2) from xs_aload_n hΓ dJ2_get_1) rfl ?_
  obtain ⟨v1, e1, e⟩ := xo_b_s e
  refine xw_gi1 (o := (some p0)) (show xm_Imp g Γ 2 (xi_get 12 2 5) from xs_get hG hΓ (ci := 12) (kf := 2) rfl (Nat.le_of_ble_eq_true rfl) q202 dJ2_get_2) rfl e1 ?_
  obtain ⟨v2, e1, e⟩ := xo_b_s e
  refine xw_sv2 (show xm_Imp g Γ 5 (xi_inv g M_J19_checkIndex 9 2 8) from xs_invS hG hΓ k_J19_checkIndex rfl q1156 q1157 dJ2_get_5) rfl (fun Q X hQ => K_J19_checkIndex hG p1 v1 _ e1 hQ) ?_
  refine xw_pop (show xm_Imp g Γ 8 (xi_pop 9) from xs_pop hΓ dJ2_get_8) rfl ?_
  refine xw_ald (show xm_Imp g Γ 9 (xi_ald 0 10) from xs_aload_n hΓ dJ2_get_9) rfl ?_
  refine xw_ild (show xm_Imp g Γ 10 (xi_ild 1 11) from xs_iload_n hΓ dJ2_get_10) rfl ?_
  obtain ⟨_, e0, e⟩ := xo_b_s e
  obtain ⟨v3, e1, e⟩ := xo_b_s e
  refine xw_hv1 (o := (some p0)) (show xm_Imp g Γ 11 (xi_vir g 12 M_J2_elementData 1 1 14) from xs_invV hG hΓ k_J2_elementData rfl (ci := 12) rfl q1160 q1161 q1162 dJ2_get_11) rfl rfl e0 (fun Q X hQ => K_J2_elementData hG p0 p1 _ e1 hQ) ?_
  have hq := hP0 _ (xl_fin e hp)
  exact xw_areto (show xm_Imp g Γ 14 (xi_aret _) from xs_areturn hΓ rfl (Or.inl ⟨_, rfl⟩) dJ2_get_14) hq
noncomputable def B_X1_randomOnes_45 (g : xm_G) (l0 : Nat) (l1 : Int32) (l2 : Int32) (h : xm_H) : Option ((Int32 × Int32) ⊕ (Int32)) :=
 some (Sum.inl (l1, (l2 + 1)))
noncomputable def D_X1_randomOnes_4 (g : xm_G) (l0 : Nat) (h : xm_H) (s : Int32 × Int32) : Option ((Int32 × Int32) ⊕ (Int32)) :=
 xo_b (xh_fr [(0, 0)] h l0) (fun v1 =>
 xo_b v1 (fun a2 =>
 xo_b (xh_fr [(1, 1)] h a2) (fun v3 =>
 xo_b v3 (fun a4 =>
 xo_b (xh_is 12 h a4) (fun _ =>
 xo_b (F_J2_size g a4 h) (fun v5 =>
 (if v5 ≤ s.2 then
 xl_o (some s.1) else
 xo_b (xh_fr [(0, 0)] h l0) (fun v6 =>
 xo_b v6 (fun a7 =>
 xo_b (xh_fr [(1, 1)] h a7) (fun v8 =>
 xo_b v8 (fun a9 =>
 xo_b (xh_is 12 h a9) (fun _ =>
 xo_b (F_J2_get g a9 s.2 h) (fun v10 =>
 xo_b (xh_cast "StringTableau$Record" h v10) (fun _ =>
 xo_b v10 (fun a11 =>
 xo_b (xh_fi [(9, 1)] h a11) (fun v12 =>
 B_X1_randomOnes_45 g l0 (if v12 = 0 then s.1 else s.1 + 1) s.2 h))))))))))))))))
noncomputable def L_X1_randomOnes_4 (g : xm_G) (l0 : Nat) (h : xm_H) (s : Int32 × Int32) : Option (Int32) := xl_loop (D_X1_randomOnes_4 g l0 h) s
noncomputable def F_X1_randomOnes (g : xm_G) (p0 : Nat) (h : xm_H) : Option (Int32) :=
 L_X1_randomOnes_4 g p0 h (0, 0)
set_option maxHeartbeats 4000000 in
theorem K_X1_randomOnes {g : xm_G} (hG : xm_Gw g) (p0 : Nat) (h : xm_H) {o : Int32} (e : F_X1_randomOnes g p0 h = some o) {Q : xm_P} {X : xm_X} (hQ : Q (some (.int o)) h) : xm_Run g M_X1_randomOnes 11 [.ref p0] h 0 0 Q X := by
  refine xm_Run.of pn_StringTableau (Nat.le_of_ble_eq_true rfl) (fun Γ hΓ => ?_)
  obtain ⟨P0, hP0, hp⟩ : ∃ P : Int32 → Prop, (∀ o, P o → Q (some (.int o)) h) ∧ P o := ⟨fun o => Q (some (.int o)) h, fun _ h => h, hQ⟩
  clear hQ
  show xm_W g Γ 0 [some (.ref p0), none, none] [] h 0 0
  have hL_4 : ∀ (l0 : Nat) (s : Int32 × Int32) (o : Int32), L_X1_randomOnes_4 g l0 h s = some o → P0 o → xm_W g Γ 4 [some (.ref l0), some (.int s.1), some (.int s.2)] [] h 0 0 := by
    intro l0
    refine xl_rule (WS := fun s : Int32 × Int32 => xm_W g Γ 4 [some (.ref l0), some (.int s.1), some (.int s.2)] [] h 0 0) ?_
    intro s o e hp
    obtain ⟨P1, hP1, hp⟩ : ∃ P : (Int32 × Int32) ⊕ (Int32) → Prop, (∀ o, P o → xl_P (fun s : Int32 × Int32 => xm_W g Γ 4 [some (.ref l0), some (.int s.1), some (.int s.2)] [] h 0 0) P0 o) ∧ P o := ⟨_, fun _ h => h, hp⟩
    have hB_45 : ∀ (l1 : Int32) (l2 : Int32) (o : (Int32 × Int32) ⊕ (Int32)), B_X1_randomOnes_45 g l0 l1 l2 h = some o → P1 o → xm_W g Γ 45 [some (.ref l0), some (.int l1), some (.int l2)] [] h 0 0 := by
      intro l1 l2 o e hp
      unfold B_X1_randomOnes_45 at e
      refine xw_inc (v := (1)) (ls' := [some (.ref l0), some (.int l1), some (.int (l2 + 1))]) (show xm_Imp g Γ 45 (xi_inc 2 (1) 48) from xs_iinc hΓ dX1_randomOnes_45 (by decide) (Nat.le_of_ble_eq_true rfl)) rfl rfl ?_
      refine xw_goto (show xm_Imp g Γ 48 (xi_goto 4) from xs_goto hΓ dX1_randomOnes_48 (by decide)) ?_
      have hq := xl_P_inl (hP1 _ (xl_fin e hp)); exact hq
    unfold D_X1_randomOnes_4 at e
    refine xw_ild (show xm_Imp g Γ 4 (xi_ild 2 5) from xs_iload_n hΓ dX1_randomOnes_4) rfl ?_
    refine xw_ald (show xm_Imp g Γ 5 (xi_ald 0 6) from xs_aload_n hΓ dX1_randomOnes_5) rfl ?_
    obtain ⟨v1, e1, e⟩ := xo_b_s e
    refine xw_gr1 (o := (some l0)) (show xm_Imp g Γ 6 (xi_get 0 0 9) from xs_get hG hΓ (ci := 0) (kf := 0) rfl (Nat.le_of_ble_eq_true rfl) q343 dX1_randomOnes_6) rfl e1 ?_
    obtain ⟨a2, ha2, e⟩ := xo_b_s e
    obtain ⟨v3, e1, e⟩ := xo_b_s e
    refine xw_gr1 (o := v1) (show xm_Imp g Γ 9 (xi_get 1 1 12) from xs_getN hG hΓ (ci := 1) (kf := 1) rfl (Nat.le_of_ble_eq_true rfl) q278 dX1_randomOnes_9) ha2 e1 ?_
    obtain ⟨a4, ha4, e⟩ := xo_b_s e
    obtain ⟨_, e0, e⟩ := xo_b_s e
    obtain ⟨v5, e1, e⟩ := xo_b_s e
    refine xw_hv0 (o := v3) (show xm_Imp g Γ 12 (xi_vir g 12 M_J2_size 1 0 17) from xs_invF hG hΓ k_J2_size rfl (ci := 12) rfl q1126 q906 q904 ⟨by decide, by decide⟩ (by decide +kernel) q902 q901 q907 q905 q903 dX1_randomOnes_12) (by simp [xm_stk, xv_cat, xc_int, xc_long, xc_float, xc_double, xc_ref]) ha4 e0 (fun Q X hQ => K_J2_size hG a4 _ e1 hQ) ?_
    refine xw_ic (show xm_Imp g Γ 17 (xi_ic (fun x y => y ≤ x) 51 20) from xs_icmp_ge hΓ dX1_randomOnes_17 (by decide)) (fun c => ?_) (fun c => ?_)
    · rw [if_pos c] at e
      obtain ⟨_, e, hp⟩ := xl_o_s e (hP1 _ hp)
      refine xw_ild (show xm_Imp g Γ 51 (xi_ild 1 52) from xs_iload_n hΓ dX1_randomOnes_51) rfl ?_
      have hq := hP0 _ (xl_fin e hp)
      exact xw_iret (show xm_Imp g Γ 52 (xi_iret .int _) from xs_ireturn hΓ rfl dX1_randomOnes_52) (xn_int _) hq
    · rw [if_neg c] at e
      refine xw_ald (show xm_Imp g Γ 20 (xi_ald 0 21) from xs_aload_n hΓ dX1_randomOnes_20) rfl ?_
      obtain ⟨v6, e1, e⟩ := xo_b_s e
      refine xw_gr1 (o := (some l0)) (show xm_Imp g Γ 21 (xi_get 0 0 24) from xs_get hG hΓ (ci := 0) (kf := 0) rfl (Nat.le_of_ble_eq_true rfl) q343 dX1_randomOnes_21) rfl e1 ?_
      obtain ⟨a7, ha7, e⟩ := xo_b_s e
      obtain ⟨v8, e1, e⟩ := xo_b_s e
      refine xw_gr1 (o := v6) (show xm_Imp g Γ 24 (xi_get 1 1 27) from xs_getN hG hΓ (ci := 1) (kf := 1) rfl (Nat.le_of_ble_eq_true rfl) q278 dX1_randomOnes_24) ha7 e1 ?_
      refine xw_ild (show xm_Imp g Γ 27 (xi_ild 2 28) from xs_iload_n hΓ dX1_randomOnes_27) rfl ?_
      obtain ⟨a9, ha9, e⟩ := xo_b_s e
      obtain ⟨_, e0, e⟩ := xo_b_s e
      obtain ⟨v10, e1, e⟩ := xo_b_s e
      refine xw_hv1 (o := v8) (show xm_Imp g Γ 28 (xi_vir g 12 M_J2_get 10 1 33) from xs_invF hG hΓ k_J2_get rfl (ci := 12) rfl q1148 q1153 q1151 ⟨by decide, by decide⟩ (by decide +kernel) q1150 q1149 q1154 q1152 q903 dX1_randomOnes_28) (by simp [xm_stk, xv_cat, xc_int, xc_long, xc_float, xc_double, xc_ref]) ha9 e0 (fun Q X hQ => K_J2_get hG a9 s.2 _ e1 hQ) ?_
      obtain ⟨_, e1, e⟩ := xo_b_s e
      refine xw_cast (o := v10) (show xm_Imp g Γ 33 (xi_cast "StringTableau$Record" 36) from xs_cast hG hΓ (xm_in 9 rfl) q1164 dX1_randomOnes_33) e1 ?_
      obtain ⟨a11, ha11, e⟩ := xo_b_s e
      obtain ⟨v12, e1, e⟩ := xo_b_s e
      refine xw_gi1 (o := v10) (show xm_Imp g Γ 36 (xi_get 9 1 39) from xs_getN hG hΓ (ci := 9) (kf := 1) rfl (Nat.le_of_ble_eq_true rfl) q1585 dX1_randomOnes_36) ha11 e1 ?_
      refine xw_if (show xm_Imp g Γ 39 (xi_if (fun x => x = 0) 45 42) from xs_if_eq hΓ dX1_randomOnes_39 (by decide)) (fun c => ?_) (fun c => ?_)
      · rw [if_pos c] at e
        exact hB_45 _ _ _ e hp
      · rw [if_neg c] at e
        refine xw_inc (v := (1)) (ls' := [some (.ref l0), some (.int (s.1 + 1)), some (.int s.2)]) (show xm_Imp g Γ 42 (xi_inc 1 (1) 45) from xs_iinc hΓ dX1_randomOnes_42 (by decide) (Nat.le_of_ble_eq_true rfl)) rfl rfl ?_
        exact hB_45 _ _ _ e hp
  unfold F_X1_randomOnes at e
  refine xw_psh (v := (.int (0))) (show xm_Imp g Γ 0 (xi_psh (.int (0)) 1) from xs_iconst hΓ dX1_randomOnes_0 (by decide)) ?_
  refine xw_ist (ls' := [some (.ref p0), some (.int 0), none]) (show xm_Imp g Γ 1 (xi_ist 1 2) from xs_istore_n hΓ dX1_randomOnes_1 (Nat.le_of_ble_eq_true rfl)) rfl ?_
  refine xw_psh (v := (.int (0))) (show xm_Imp g Γ 2 (xi_psh (.int (0)) 3) from xs_iconst hΓ dX1_randomOnes_2 (by decide)) ?_
  refine xw_ist (ls' := [some (.ref p0), some (.int 0), some (.int 0)]) (show xm_Imp g Γ 3 (xi_ist 2 4) from xs_istore_n hΓ dX1_randomOnes_3 (Nat.le_of_ble_eq_true rfl)) rfl ?_
  exact hL_4 _ _ _ e hp
noncomputable def F_X1_count (g : xm_G) (p0 : Nat) (p1 : Int32) (h : xm_H) : Option (Int32) :=
 (if p1 = 0 then
 xo_b (xh_is 0 h p0) (fun _ =>
 xo_b (F_X1_qubits g p0 h) (fun v1 =>
 some v1)) else
 (if p1 = 1 then
 xo_b (xh_fr [(0, 1)] h p0) (fun v2 =>
 xo_b v2 (fun a3 =>
 xo_b (xh_is 12 h a3) (fun _ =>
 xo_b (F_J2_size g a3 h) (fun v4 =>
 some v4)))) else
 (if p1 = 2 then
 xo_b (xh_fr [(0, 0)] h p0) (fun v5 =>
 xo_b v5 (fun a6 =>
 xo_b (xh_fi [(1, 5)] h a6) (fun v7 =>
 some v7))) else
 (if p1 = 3 then
 xo_b (xh_fr [(0, 0)] h p0) (fun v8 =>
 xo_b v8 (fun a9 =>
 xo_b (xh_fr [(1, 1)] h a9) (fun v10 =>
 xo_b v10 (fun a11 =>
 xo_b (xh_is 12 h a11) (fun _ =>
 xo_b (F_J2_size g a11 h) (fun v12 =>
 some v12)))))) else
 (if p1 = 4 then
 xo_b (xh_is 0 h p0) (fun _ =>
 xo_b (F_X1_randomOnes g p0 h) (fun v13 =>
 some v13)) else
 (if p1 = 5 then
 xo_b (xh_fr [(0, 0)] h p0) (fun v14 =>
 xo_b v14 (fun a15 =>
 xo_b (xh_fi [(1, 6)] h a15) (fun v16 =>
 some v16))) else
 (if p1 = 6 then
 xo_b (xh_fr [(0, 0)] h p0) (fun v17 =>
 xo_b v17 (fun a18 =>
 xo_b (xh_fr [(1, 2)] h a18) (fun v19 =>
 xo_b v19 (fun a20 =>
 xo_b (xh_is 13 h a20) (fun _ =>
 xo_b (F_J3_size g a20 h) (fun v21 =>
 some v21)))))) else
 (if p1 = 7 then
 xo_b (xh_fr [(0, 2)] h p0) (fun v22 =>
 xo_b v22 (fun a23 =>
 xo_b (xh_is 13 h a23) (fun _ =>
 xo_b (F_J3_size g a23 h) (fun v24 =>
 some v24)))) else
 some (-1)))))))))
set_option maxHeartbeats 4000000 in
theorem K_X1_count {g : xm_G} (hG : xm_Gw g) (p0 : Nat) (p1 : Int32) (h : xm_H) {o : Int32} (e : F_X1_count g p0 p1 h = some o) {Q : xm_P} {X : xm_X} (hQ : Q (some (.int o)) h) : xm_Run g M_X1_count 12 [.ref p0, .int p1] h 0 0 Q X := by
  refine xm_Run.of pn_StringTableau (Nat.le_of_ble_eq_true rfl) (fun Γ hΓ => ?_)
  obtain ⟨P0, hP0, hp⟩ : ∃ P : Int32 → Prop, (∀ o, P o → Q (some (.int o)) h) ∧ P o := ⟨fun o => Q (some (.int o)) h, fun _ h => h, hQ⟩
  clear hQ
  show xm_W g Γ 0 [some (.ref p0), some (.int p1)] [] h 0 0
  unfold F_X1_count at e
  refine xw_ild (show xm_Imp g Γ 0 (xi_ild 1 1) from xs_iload_n hΓ dX1_count_0) rfl ?_
  by_cases c0 : p1 = 0
  · rw [if_pos c0] at e
    refine xw_tsi (show xm_Imp g Γ 1 (xi_tsw 0 7 [48, 53, 63, 71, 84, 89, 97, 108] 116) from xs_tsw hΓ dX1_count_1 (by decide) (by decide) (by decide)) (i := 0) rfl (by rw [c0]; decide) (by decide) ?_
    refine xw_ald (show xm_Imp g Γ 48 (xi_ald 0 49) from xs_aload_n hΓ dX1_count_48) rfl ?_
    obtain ⟨_, e0, e⟩ := xo_b_s e
    obtain ⟨v1, e1, e⟩ := xo_b_s e
    refine xw_hv0 (o := (some p0)) (show xm_Imp g Γ 49 (xi_vir g 0 M_X1_qubits 1 0 52) from xs_invV hG hΓ k_X1_qubits rfl (ci := 0) rfl q1139 q1141 qs20 dX1_count_49) rfl rfl e0 (fun Q X hQ => K_X1_qubits hG p0 _ e1 hQ) ?_
    have hq := hP0 _ (xl_fin e hp)
    exact xw_iret (show xm_Imp g Γ 52 (xi_iret .int _) from xs_ireturn hΓ rfl dX1_count_52) (xn_int _) hq
  rw [if_neg c0] at e
  by_cases c1 : p1 = 1
  · rw [if_pos c1] at e
    refine xw_tsi (show xm_Imp g Γ 1 (xi_tsw 0 7 [48, 53, 63, 71, 84, 89, 97, 108] 116) from xs_tsw hΓ dX1_count_1 (by decide) (by decide) (by decide)) (i := 1) rfl (by rw [c1]; decide) (by decide) ?_
    refine xw_ald (show xm_Imp g Γ 53 (xi_ald 0 54) from xs_aload_n hΓ dX1_count_53) rfl ?_
    obtain ⟨v2, e1, e⟩ := xo_b_s e
    refine xw_gr1 (o := (some p0)) (show xm_Imp g Γ 54 (xi_get 0 1 57) from xs_get hG hΓ (ci := 0) (kf := 1) rfl (Nat.le_of_ble_eq_true rfl) q346 dX1_count_54) rfl e1 ?_
    obtain ⟨a3, ha3, e⟩ := xo_b_s e
    obtain ⟨_, e0, e⟩ := xo_b_s e
    obtain ⟨v4, e1, e⟩ := xo_b_s e
    refine xw_hv0 (o := v2) (show xm_Imp g Γ 57 (xi_vir g 12 M_J2_size 1 0 62) from xs_invF hG hΓ k_J2_size rfl (ci := 12) rfl q1126 q906 q904 ⟨by decide, by decide⟩ (by decide +kernel) q902 q901 q907 q905 q903 dX1_count_57) (by simp [xm_stk, xv_cat, xc_int, xc_long, xc_float, xc_double, xc_ref]) ha3 e0 (fun Q X hQ => K_J2_size hG a3 _ e1 hQ) ?_
    have hq := hP0 _ (xl_fin e hp)
    exact xw_iret (show xm_Imp g Γ 62 (xi_iret .int _) from xs_ireturn hΓ rfl dX1_count_62) (xn_int _) hq
  rw [if_neg c1] at e
  by_cases c2 : p1 = 2
  · rw [if_pos c2] at e
    refine xw_tsi (show xm_Imp g Γ 1 (xi_tsw 0 7 [48, 53, 63, 71, 84, 89, 97, 108] 116) from xs_tsw hΓ dX1_count_1 (by decide) (by decide) (by decide)) (i := 2) rfl (by rw [c2]; decide) (by decide) ?_
    refine xw_ald (show xm_Imp g Γ 63 (xi_ald 0 64) from xs_aload_n hΓ dX1_count_63) rfl ?_
    obtain ⟨v5, e1, e⟩ := xo_b_s e
    refine xw_gr1 (o := (some p0)) (show xm_Imp g Γ 64 (xi_get 0 0 67) from xs_get hG hΓ (ci := 0) (kf := 0) rfl (Nat.le_of_ble_eq_true rfl) q343 dX1_count_64) rfl e1 ?_
    obtain ⟨a6, ha6, e⟩ := xo_b_s e
    obtain ⟨v7, e1, e⟩ := xo_b_s e
    refine xw_gi1 (o := v5) (show xm_Imp g Γ 67 (xi_get 1 5 70) from xs_getN hG hΓ (ci := 1) (kf := 5) rfl (Nat.le_of_ble_eq_true rfl) q286 dX1_count_67) ha6 e1 ?_
    have hq := hP0 _ (xl_fin e hp)
    exact xw_iret (show xm_Imp g Γ 70 (xi_iret .int _) from xs_ireturn hΓ rfl dX1_count_70) (xn_int _) hq
  rw [if_neg c2] at e
  by_cases c3 : p1 = 3
  · rw [if_pos c3] at e
    refine xw_tsi (show xm_Imp g Γ 1 (xi_tsw 0 7 [48, 53, 63, 71, 84, 89, 97, 108] 116) from xs_tsw hΓ dX1_count_1 (by decide) (by decide) (by decide)) (i := 3) rfl (by rw [c3]; decide) (by decide) ?_
    refine xw_ald (show xm_Imp g Γ 71 (xi_ald 0 72) from xs_aload_n hΓ dX1_count_71) rfl ?_
    obtain ⟨v8, e1, e⟩ := xo_b_s e
    refine xw_gr1 (o := (some p0)) (show xm_Imp g Γ 72 (xi_get 0 0 75) from xs_get hG hΓ (ci := 0) (kf := 0) rfl (Nat.le_of_ble_eq_true rfl) q343 dX1_count_72) rfl e1 ?_
    obtain ⟨a9, ha9, e⟩ := xo_b_s e
    obtain ⟨v10, e1, e⟩ := xo_b_s e
    refine xw_gr1 (o := v8) (show xm_Imp g Γ 75 (xi_get 1 1 78) from xs_getN hG hΓ (ci := 1) (kf := 1) rfl (Nat.le_of_ble_eq_true rfl) q278 dX1_count_75) ha9 e1 ?_
    obtain ⟨a11, ha11, e⟩ := xo_b_s e
    obtain ⟨_, e0, e⟩ := xo_b_s e
    obtain ⟨v12, e1, e⟩ := xo_b_s e
    refine xw_hv0 (o := v10) (show xm_Imp g Γ 78 (xi_vir g 12 M_J2_size 1 0 83) from xs_invF hG hΓ k_J2_size rfl (ci := 12) rfl q1126 q906 q904 ⟨by decide, by decide⟩ (by decide +kernel) q902 q901 q907 q905 q903 dX1_count_78) (by simp [xm_stk, xv_cat, xc_int, xc_long, xc_float, xc_double, xc_ref]) ha11 e0 (fun Q X hQ => K_J2_size hG a11 _ e1 hQ) ?_
    have hq := hP0 _ (xl_fin e hp)
    exact xw_iret (show xm_Imp g Γ 83 (xi_iret .int _) from xs_ireturn hΓ rfl dX1_count_83) (xn_int _) hq
  rw [if_neg c3] at e
  by_cases c4 : p1 = 4
  · rw [if_pos c4] at e
    refine xw_tsi (show xm_Imp g Γ 1 (xi_tsw 0 7 [48, 53, 63, 71, 84, 89, 97, 108] 116) from xs_tsw hΓ dX1_count_1 (by decide) (by decide) (by decide)) (i := 4) rfl (by rw [c4]; decide) (by decide) ?_
    refine xw_ald (show xm_Imp g Γ 84 (xi_ald 0 85) from xs_aload_n hΓ dX1_count_84) rfl ?_
    obtain ⟨_, e0, e⟩ := xo_b_s e
    obtain ⟨v13, e1, e⟩ := xo_b_s e
    refine xw_hv0 (o := (some p0)) (show xm_Imp g Γ 85 (xi_vir g 0 M_X1_randomOnes 11 0 88) from xs_invV hG hΓ k_X1_randomOnes rfl (ci := 0) rfl q1143 q1145 qs21 dX1_count_85) rfl rfl e0 (fun Q X hQ => K_X1_randomOnes hG p0 _ e1 hQ) ?_
    have hq := hP0 _ (xl_fin e hp)
    exact xw_iret (show xm_Imp g Γ 88 (xi_iret .int _) from xs_ireturn hΓ rfl dX1_count_88) (xn_int _) hq
  rw [if_neg c4] at e
  by_cases c5 : p1 = 5
  · rw [if_pos c5] at e
    refine xw_tsi (show xm_Imp g Γ 1 (xi_tsw 0 7 [48, 53, 63, 71, 84, 89, 97, 108] 116) from xs_tsw hΓ dX1_count_1 (by decide) (by decide) (by decide)) (i := 5) rfl (by rw [c5]; decide) (by decide) ?_
    refine xw_ald (show xm_Imp g Γ 89 (xi_ald 0 90) from xs_aload_n hΓ dX1_count_89) rfl ?_
    obtain ⟨v14, e1, e⟩ := xo_b_s e
    refine xw_gr1 (o := (some p0)) (show xm_Imp g Γ 90 (xi_get 0 0 93) from xs_get hG hΓ (ci := 0) (kf := 0) rfl (Nat.le_of_ble_eq_true rfl) q343 dX1_count_90) rfl e1 ?_
    obtain ⟨a15, ha15, e⟩ := xo_b_s e
    obtain ⟨v16, e1, e⟩ := xo_b_s e
    refine xw_gi1 (o := v14) (show xm_Imp g Γ 93 (xi_get 1 6 96) from xs_getN hG hΓ (ci := 1) (kf := 6) rfl (Nat.le_of_ble_eq_true rfl) q288 dX1_count_93) ha15 e1 ?_
    have hq := hP0 _ (xl_fin e hp)
    exact xw_iret (show xm_Imp g Γ 96 (xi_iret .int _) from xs_ireturn hΓ rfl dX1_count_96) (xn_int _) hq
  rw [if_neg c5] at e
  by_cases c6 : p1 = 6
  · rw [if_pos c6] at e
    refine xw_tsi (show xm_Imp g Γ 1 (xi_tsw 0 7 [48, 53, 63, 71, 84, 89, 97, 108] 116) from xs_tsw hΓ dX1_count_1 (by decide) (by decide) (by decide)) (i := 6) rfl (by rw [c6]; decide) (by decide) ?_
    refine xw_ald (show xm_Imp g Γ 97 (xi_ald 0 98) from xs_aload_n hΓ dX1_count_97) rfl ?_
    obtain ⟨v17, e1, e⟩ := xo_b_s e
    refine xw_gr1 (o := (some p0)) (show xm_Imp g Γ 98 (xi_get 0 0 101) from xs_get hG hΓ (ci := 0) (kf := 0) rfl (Nat.le_of_ble_eq_true rfl) q343 dX1_count_98) rfl e1 ?_
    obtain ⟨a18, ha18, e⟩ := xo_b_s e
    obtain ⟨v19, e1, e⟩ := xo_b_s e
    refine xw_gr1 (o := v17) (show xm_Imp g Γ 101 (xi_get 1 2 104) from xs_getN hG hΓ (ci := 1) (kf := 2) rfl (Nat.le_of_ble_eq_true rfl) q280 dX1_count_101) ha18 e1 ?_
    obtain ⟨a20, ha20, e⟩ := xo_b_s e
    obtain ⟨_, e0, e⟩ := xo_b_s e
    obtain ⟨v21, e1, e⟩ := xo_b_s e
    refine xw_hv0 (o := v19) (show xm_Imp g Γ 104 (xi_vir g 13 M_J3_size 2 0 107) from xs_invV hG hΓ k_J3_size rfl (ci := 13) rfl q1165 q1166 q1167 dX1_count_104) (by simp [xm_stk, xv_cat, xc_int, xc_long, xc_float, xc_double, xc_ref]) ha20 e0 (fun Q X hQ => K_J3_size hG a20 _ e1 hQ) ?_
    have hq := hP0 _ (xl_fin e hp)
    exact xw_iret (show xm_Imp g Γ 107 (xi_iret .int _) from xs_ireturn hΓ rfl dX1_count_107) (xn_int _) hq
  rw [if_neg c6] at e
  by_cases c7 : p1 = 7
  · rw [if_pos c7] at e
    refine xw_tsi (show xm_Imp g Γ 1 (xi_tsw 0 7 [48, 53, 63, 71, 84, 89, 97, 108] 116) from xs_tsw hΓ dX1_count_1 (by decide) (by decide) (by decide)) (i := 7) rfl (by rw [c7]; decide) (by decide) ?_
    refine xw_ald (show xm_Imp g Γ 108 (xi_ald 0 109) from xs_aload_n hΓ dX1_count_108) rfl ?_
    obtain ⟨v22, e1, e⟩ := xo_b_s e
    refine xw_gr1 (o := (some p0)) (show xm_Imp g Γ 109 (xi_get 0 2 112) from xs_get hG hΓ (ci := 0) (kf := 2) rfl (Nat.le_of_ble_eq_true rfl) q347 dX1_count_109) rfl e1 ?_
    obtain ⟨a23, ha23, e⟩ := xo_b_s e
    obtain ⟨_, e0, e⟩ := xo_b_s e
    obtain ⟨v24, e1, e⟩ := xo_b_s e
    refine xw_hv0 (o := v22) (show xm_Imp g Γ 112 (xi_vir g 13 M_J3_size 2 0 115) from xs_invV hG hΓ k_J3_size rfl (ci := 13) rfl q1165 q1166 q1167 dX1_count_112) (by simp [xm_stk, xv_cat, xc_int, xc_long, xc_float, xc_double, xc_ref]) ha23 e0 (fun Q X hQ => K_J3_size hG a23 _ e1 hQ) ?_
    have hq := hP0 _ (xl_fin e hp)
    exact xw_iret (show xm_Imp g Γ 115 (xi_iret .int _) from xs_ireturn hΓ rfl dX1_count_115) (xn_int _) hq
  rw [if_neg c7] at e
  refine xw_tsd (show xm_Imp g Γ 1 (xi_tsw 0 7 [48, 53, 63, 71, 84, 89, 97, 108] 116) from xs_tsw hΓ dX1_count_1 (by decide) (by decide) (by decide)) (xm_tsd p1 [(0 : Int32), (1 : Int32), (2 : Int32), (3 : Int32), (4 : Int32), (5 : Int32), (6 : Int32), (7 : Int32)] (by decide) (And.intro c0 (And.intro c1 (And.intro c2 (And.intro c3 (And.intro c4 (And.intro c5 (And.intro c6 (And.intro c7 (trivial)))))))))) (by decide) ?_
  refine xw_psh (v := (.int (-1))) (show xm_Imp g Γ 116 (xi_psh (.int (-1)) 117) from xs_iconst hΓ dX1_count_116 (by decide)) ?_
  have hq := hP0 _ (xl_fin e hp)
  exact xw_iret (show xm_Imp g Γ 117 (xi_iret .int _) from xs_ireturn hΓ rfl dX1_count_117) (xn_int _) hq
noncomputable def F_X9_isPossible (g : xm_G) (p0 : Nat) (h : xm_H) (bc : Nat) (bs : Nat) (Q : Int32 → xm_H → Prop) : Prop :=
 xt_b (xh_fr [(7, 4)] h p0) (fun v1 =>
 xt_b v1 (fun a2 =>
 xt_b (xh_fr [(0, 0)] h a2) (fun v3 =>
 xt_b (xh_fr [(7, 1)] h p0) (fun v4 =>
 xt_b (xh_fi [(7, 2)] h p0) (fun v5 =>
 xt_b v3 (fun a6 =>
 xt_b (xh_is 1 h a6) (fun _ =>
 xt_c bc bs (fun m7 m8 => F_X2_canMeasure g a6 v4 v5 h m7 m8 (fun v10 h9 =>
 xt_b (xb_chk .boolean v10) (fun _ =>
 Q v10 h9))))))))))
set_option maxHeartbeats 4000000 in
theorem K_X9_isPossible {g : xm_G} (hG : xm_Gw g) (p0 : Nat) (h : xm_H) (bc : Nat) (bs : Nat) {Q : Int32 → xm_H → Prop} (e : F_X9_isPossible g p0 h bc bs Q) : xm_Run g M_X9_isPossible 9 [.ref p0] h bc bs (fun v h' => ∃ r, v = some (.int r) ∧ Q r h') xm_no := by
  refine xm_Run.of pn_StringTableau_MeasureOperation (Nat.le_of_ble_eq_true rfl) (fun Γ hΓ => ?_)
  show xm_W g Γ 0 [some (.ref p0)] [] h bc bs
  unfold F_X9_isPossible at e
  refine xw_ald (show xm_Imp g Γ 0 (xi_ald 0 1) from xs_aload_n hΓ dX9_isPossible_0) rfl ?_
  obtain ⟨v1, e1, e⟩ := e
  refine xw_gr1 (o := (some p0)) (show xm_Imp g Γ 1 (xi_get 7 4 4) from xs_get hG hΓ (ci := 7) (kf := 4) rfl (Nat.le_of_ble_eq_true rfl) q999 dX9_isPossible_1) rfl e1 ?_
  obtain ⟨a2, ha2, e⟩ := e
  obtain ⟨v3, e1, e⟩ := e
  refine xw_gr1 (o := v1) (show xm_Imp g Γ 4 (xi_get 0 0 7) from xs_getN hG hΓ (ci := 0) (kf := 0) rfl (Nat.le_of_ble_eq_true rfl) q344 dX9_isPossible_4) ha2 e1 ?_
  refine xw_ald (show xm_Imp g Γ 7 (xi_ald 0 8) from xs_aload_n hΓ dX9_isPossible_7) rfl ?_
  obtain ⟨v4, e1, e⟩ := e
  refine xw_gr1 (o := (some p0)) (show xm_Imp g Γ 8 (xi_get 7 1 11) from xs_get hG hΓ (ci := 7) (kf := 1) rfl (Nat.le_of_ble_eq_true rfl) q996 dX9_isPossible_8) rfl e1 ?_
  refine xw_ald (show xm_Imp g Γ 11 (xi_ald 0 12) from xs_aload_n hΓ dX9_isPossible_11) rfl ?_
  obtain ⟨v5, e1, e⟩ := e
  refine xw_gi1 (o := (some p0)) (show xm_Imp g Γ 12 (xi_get 7 2 15) from xs_get hG hΓ (ci := 7) (kf := 2) rfl (Nat.le_of_ble_eq_true rfl) q997 dX9_isPossible_12) rfl e1 ?_
  obtain ⟨a6, ha6, e⟩ := e
  obtain ⟨_, e0, e⟩ := e
  obtain ⟨m7, m8, ⟨em1, em2⟩, e⟩ := e
  refine xw_tvi2 (o := v3) (show xm_Imp g Γ 15 (xi_vir g 1 M_X2_canMeasure 8 2 18) from xs_invV hG hΓ k_X2_canMeasure rfl (ci := 1) rfl q1190 q1191 q1192 dX9_isPossible_15) (by simp [xm_stk, xv_cat, xc_int, xc_long, xc_float, xc_double, xc_ref]) ha6 e0 em1 em2 (K_X2_canMeasure hG a6 v4 v5 _ _ _ e) (fun v10 h9 e => ?_)
  obtain ⟨_, e1, e⟩ := e
  exact xw_iret (show xm_Imp g Γ 18 (xi_iret .boolean _) from xs_ireturn hΓ rfl dX9_isPossible_18) (xb_of e1) ⟨_, rfl, e⟩
noncomputable def F_X10_isPossible (g : xm_G) (p0 : Nat) (h : xm_H) : Option (Int32) :=
 some 1
set_option maxHeartbeats 4000000 in
theorem K_X10_isPossible {g : xm_G} (hG : xm_Gw g) (p0 : Nat) (h : xm_H) {o : Int32} (e : F_X10_isPossible g p0 h = some o) {Q : xm_P} {X : xm_X} (hQ : Q (some (.int o)) h) : xm_Run g M_X10_isPossible 1 [.ref p0] h 0 0 Q X := by
  refine xm_Run.of pn_StringTableau_GateOperation (Nat.le_of_ble_eq_true rfl) (fun Γ hΓ => ?_)
  obtain ⟨P0, hP0, hp⟩ : ∃ P : Int32 → Prop, (∀ o, P o → Q (some (.int o)) h) ∧ P o := ⟨fun o => Q (some (.int o)) h, fun _ h => h, hQ⟩
  clear hQ
  show xm_W g Γ 0 [some (.ref p0)] [] h 0 0
  unfold F_X10_isPossible at e
  refine xw_psh (v := (.int (1))) (show xm_Imp g Γ 0 (xi_psh (.int (1)) 1) from xs_iconst hΓ dX10_isPossible_0 (by decide)) ?_
  have hq := hP0 _ (xl_fin e hp)
  exact xw_iret (show xm_Imp g Γ 1 (xi_iret .boolean _) from xs_ireturn hΓ rfl dX10_isPossible_1) rfl hq
noncomputable def B_X1_canStep_48 (g : xm_G) (h : xm_H) (bc : Nat) (bs : Nat) (Q : Int32 → xm_H → Prop) : Prop :=
 Q 0 h
noncomputable def F_X1_canStep (g : xm_G) (p0 : Nat) (h : xm_H) (bc : Nat) (bs : Nat) (Q : Int32 → xm_H → Prop) : Prop :=
 xt_b (xh_fr [(0, 0)] h p0) (fun v1 =>
 xt_b v1 (fun a2 =>
 xt_b (xh_fi [(1, 5)] h a2) (fun v3 =>
 xt_b (xh_fr [(0, 1)] h p0) (fun v4 =>
 xt_b v4 (fun a5 =>
 xt_b (xh_is 12 h a5) (fun _ =>
 xt_b (F_J2_size g a5 h) (fun v6 =>
 (if v6 ≤ v3 then
 B_X1_canStep_48 g h bc bs Q else
 xt_b (xh_fr [(0, 1)] h p0) (fun v7 =>
 xt_b (xh_fr [(0, 0)] h p0) (fun v8 =>
 xt_b v8 (fun a9 =>
 xt_b (xh_fi [(1, 5)] h a9) (fun v10 =>
 xt_b v7 (fun a11 =>
 xt_b (xh_is 12 h a11) (fun _ =>
 xt_b (F_J2_get g a11 v10 h) (fun v12 =>
 xt_b (xh_castY "StringTableau$Operation" h v12) (fun _ =>
 xt_b v12 (fun a13 =>
 xt_b (xh_ci h a13) (fun c14 =>
 (if c14 = 7 then
 xt_c bc bs (fun m15 m16 => F_X9_isPossible g a13 h m15 m16 (fun v18 h17 =>
 (if v18 = 0 then
 B_X1_canStep_48 g h17 (bc - m15) (bs - m16) Q else
 Q 1 h17))) else
 (if c14 = 8 then
 xt_b (F_X10_isPossible g a13 h) (fun v19 =>
 (if v19 = 0 then
 B_X1_canStep_48 g h bc bs Q else
 Q 1 h)) else
 False))))))))))))))))))))
set_option maxHeartbeats 4000000 in
theorem K_X1_canStep {g : xm_G} (hG : xm_Gw g) (p0 : Nat) (h : xm_H) (bc : Nat) (bs : Nat) {Q : Int32 → xm_H → Prop} (e : F_X1_canStep g p0 h bc bs Q) : xm_Run g M_X1_canStep 11 [.ref p0] h bc bs (fun v h' => ∃ r, v = some (.int r) ∧ Q r h') xm_no := by
  refine xm_Run.of pn_StringTableau (Nat.le_of_ble_eq_true rfl) (fun Γ hΓ => ?_)
  show xm_W g Γ 0 [some (.ref p0)] [] h bc bs
  have hB_48 : ∀ (h : xm_H) (bc : Nat) (bs : Nat), B_X1_canStep_48 g h bc bs Q → xm_W g Γ 48 [none] [] h bc bs := by
    intro h bc bs e
    unfold B_X1_canStep_48 at e
    refine xw_psh (v := (.int (0))) (show xm_Imp g Γ 48 (xi_psh (.int (0)) 49) from xs_iconst hΓ dX1_canStep_48 (by decide)) ?_
    exact xw_iret (show xm_Imp g Γ 49 (xi_iret .boolean _) from xs_ireturn hΓ rfl dX1_canStep_49) rfl ⟨_, rfl, e⟩
  unfold F_X1_canStep at e
  refine xw_ald (show xm_Imp g Γ 0 (xi_ald 0 1) from xs_aload_n hΓ dX1_canStep_0) rfl ?_
  obtain ⟨v1, e1, e⟩ := e
  refine xw_gr1 (o := (some p0)) (show xm_Imp g Γ 1 (xi_get 0 0 4) from xs_get hG hΓ (ci := 0) (kf := 0) rfl (Nat.le_of_ble_eq_true rfl) q343 dX1_canStep_1) rfl e1 ?_
  obtain ⟨a2, ha2, e⟩ := e
  obtain ⟨v3, e1, e⟩ := e
  refine xw_gi1 (o := v1) (show xm_Imp g Γ 4 (xi_get 1 5 7) from xs_getN hG hΓ (ci := 1) (kf := 5) rfl (Nat.le_of_ble_eq_true rfl) q286 dX1_canStep_4) ha2 e1 ?_
  refine xw_ald (show xm_Imp g Γ 7 (xi_ald 0 8) from xs_aload_n hΓ dX1_canStep_7) rfl ?_
  obtain ⟨v4, e1, e⟩ := e
  refine xw_gr1 (o := (some p0)) (show xm_Imp g Γ 8 (xi_get 0 1 11) from xs_get hG hΓ (ci := 0) (kf := 1) rfl (Nat.le_of_ble_eq_true rfl) q346 dX1_canStep_8) rfl e1 ?_
  obtain ⟨a5, ha5, e⟩ := e
  obtain ⟨_, e0, e⟩ := e
  obtain ⟨v6, e1, e⟩ := e
  refine xw_hv0 (o := v4) (show xm_Imp g Γ 11 (xi_vir g 12 M_J2_size 1 0 16) from xs_invF hG hΓ k_J2_size rfl (ci := 12) rfl q1126 q906 q904 ⟨by decide, by decide⟩ (by decide +kernel) q902 q901 q907 q905 q903 dX1_canStep_11) (by simp [xm_stk, xv_cat, xc_int, xc_long, xc_float, xc_double, xc_ref]) ha5 e0 (fun Q X hQ => K_J2_size hG a5 _ e1 hQ) ?_
  refine xw_ic (show xm_Imp g Γ 16 (xi_ic (fun x y => y ≤ x) 48 19) from xs_icmp_ge hΓ dX1_canStep_16 (by decide)) (fun c => ?_) (fun c => ?_)
  · rw [if_pos c] at e
    exact xm_lx (hB_48 _ _ _ e) (trivial)
  · rw [if_neg c] at e
    refine xw_ald (show xm_Imp g Γ 19 (xi_ald 0 20) from xs_aload_n hΓ dX1_canStep_19) rfl ?_
    obtain ⟨v7, e1, e⟩ := e
    refine xw_gr1 (o := (some p0)) (show xm_Imp g Γ 20 (xi_get 0 1 23) from xs_get hG hΓ (ci := 0) (kf := 1) rfl (Nat.le_of_ble_eq_true rfl) q346 dX1_canStep_20) rfl e1 ?_
    refine xw_ald (show xm_Imp g Γ 23 (xi_ald 0 24) from xs_aload_n hΓ dX1_canStep_23) rfl ?_
    obtain ⟨v8, e1, e⟩ := e
    refine xw_gr1 (o := (some p0)) (show xm_Imp g Γ 24 (xi_get 0 0 27) from xs_get hG hΓ (ci := 0) (kf := 0) rfl (Nat.le_of_ble_eq_true rfl) q343 dX1_canStep_24) rfl e1 ?_
    obtain ⟨a9, ha9, e⟩ := e
    obtain ⟨v10, e1, e⟩ := e
    refine xw_gi1 (o := v8) (show xm_Imp g Γ 27 (xi_get 1 5 30) from xs_getN hG hΓ (ci := 1) (kf := 5) rfl (Nat.le_of_ble_eq_true rfl) q286 dX1_canStep_27) ha9 e1 ?_
    obtain ⟨a11, ha11, e⟩ := e
    obtain ⟨_, e0, e⟩ := e
    obtain ⟨v12, e1, e⟩ := e
    refine xw_hv1 (o := v7) (show xm_Imp g Γ 30 (xi_vir g 12 M_J2_get 10 1 35) from xs_invF hG hΓ k_J2_get rfl (ci := 12) rfl q1148 q1153 q1151 ⟨by decide, by decide⟩ (by decide +kernel) q1150 q1149 q1154 q1152 q903 dX1_canStep_30) (by simp [xm_stk, xv_cat, xc_int, xc_long, xc_float, xc_double, xc_ref]) ha11 e0 (fun Q X hQ => K_J2_get hG a11 v10 _ e1 hQ) ?_
    obtain ⟨_, e1, e⟩ := e
    refine xw_castY (o := v12) (show xm_Imp g Γ 35 (xi_castY "StringTableau$Operation" 38) from xs_castY hG hΓ q1180 dX1_canStep_35) e1 ?_
    obtain ⟨a13, ha13, e⟩ := e
    obtain ⟨c14, e0, e⟩ := e
    by_cases cc0 : c14 = 7
    · rw [if_pos cc0] at e
      obtain ⟨m15, m16, ⟨em1, em2⟩, e⟩ := e
      refine xw_tvi0 (o := v12) (xm_or1 (show xm_Imp g Γ 38 (xi_or (xi_vir g 7 M_X9_isPossible 9 0 41) (xi_vir g 8 M_X10_isPossible 1 0 41)) from xs_or (xs_invA hG hΓ (owner := "StringTableau$Operation") k_X9_isPossible rfl (ci := 7) rfl q1181 q1183 q1188 q1187 q1182 ⟨by decide, by decide⟩ (by decide +kernel) dX1_canStep_38) (xs_invA hG hΓ (owner := "StringTableau$Operation") k_X10_isPossible rfl (ci := 8) rfl q1181 q1183 q1185 q1184 q1182 ⟨by decide, by decide⟩ (by decide +kernel) dX1_canStep_38))) (by simp [xm_stk, xv_cat, xc_int, xc_long, xc_float, xc_double, xc_ref]) ha13 (xh_is_of e0 cc0) em1 em2 (K_X9_isPossible hG a13 _ _ _ e) (fun v18 h17 e => ?_)
      refine xw_if (show xm_Imp g Γ 41 (xi_if (fun x => x = 0) 48 44) from xs_if_eq hΓ dX1_canStep_41 (by decide)) (fun c => ?_) (fun c => ?_)
      · rw [if_pos c] at e
        exact xm_lx (hB_48 _ _ _ e) (trivial)
      · rw [if_neg c] at e
        refine xw_psh (v := (.int (1))) (show xm_Imp g Γ 44 (xi_psh (.int (1)) 45) from xs_iconst hΓ dX1_canStep_44 (by decide)) ?_
        refine xw_goto (show xm_Imp g Γ 45 (xi_goto 49) from xs_goto hΓ dX1_canStep_45 (by decide)) ?_
        exact xw_iret (show xm_Imp g Γ 49 (xi_iret .boolean _) from xs_ireturn hΓ rfl dX1_canStep_49) rfl ⟨_, rfl, e⟩
    rw [if_neg cc0] at e
    by_cases cc1 : c14 = 8
    · rw [if_pos cc1] at e
      obtain ⟨v19, e1, e⟩ := e
      refine xw_hv0 (o := v12) (xm_or2 (show xm_Imp g Γ 38 (xi_or (xi_vir g 7 M_X9_isPossible 9 0 41) (xi_vir g 8 M_X10_isPossible 1 0 41)) from xs_or (xs_invA hG hΓ (owner := "StringTableau$Operation") k_X9_isPossible rfl (ci := 7) rfl q1181 q1183 q1188 q1187 q1182 ⟨by decide, by decide⟩ (by decide +kernel) dX1_canStep_38) (xs_invA hG hΓ (owner := "StringTableau$Operation") k_X10_isPossible rfl (ci := 8) rfl q1181 q1183 q1185 q1184 q1182 ⟨by decide, by decide⟩ (by decide +kernel) dX1_canStep_38))) (by simp [xm_stk, xv_cat, xc_int, xc_long, xc_float, xc_double, xc_ref]) ha13 (xh_is_of e0 cc1) (fun Q X hQ => K_X10_isPossible hG a13 _ e1 hQ) ?_
      refine xw_if (show xm_Imp g Γ 41 (xi_if (fun x => x = 0) 48 44) from xs_if_eq hΓ dX1_canStep_41 (by decide)) (fun c => ?_) (fun c => ?_)
      · rw [if_pos c] at e
        exact xm_lx (hB_48 _ _ _ e) (trivial)
      · rw [if_neg c] at e
        refine xw_psh (v := (.int (1))) (show xm_Imp g Γ 44 (xi_psh (.int (1)) 45) from xs_iconst hΓ dX1_canStep_44 (by decide)) ?_
        refine xw_goto (show xm_Imp g Γ 45 (xi_goto 49) from xs_goto hΓ dX1_canStep_45 (by decide)) ?_
        exact xw_iret (show xm_Imp g Γ 49 (xi_iret .boolean _) from xs_ireturn hΓ rfl dX1_canStep_49) rfl ⟨_, rfl, e⟩
    rw [if_neg cc1] at e
    exact e.elim
noncomputable def B_X1_remember_20 (g : xm_G) (l0 : Nat) (h : xm_H) (bc : Nat) (bs : Nat) (Q : xm_H → Prop) : Prop :=
 xt_b (xh_fr [(0, 2)] h l0) (fun v7 =>
 xt_b (xh_fr [(0, 0)] h l0) (fun v8 =>
 xt_b v7 (fun a9 =>
 xt_b (xh_is 13 h a9) (fun _ =>
 xt_c bc bs (fun m10 m11 => F_J3_addLast g a9 v8 h m10 m11 (fun h12 =>
 xt_b (xh_fr [(0, 0)] h12 l0) (fun v14 =>
 xt_b v14 (fun a15 =>
 xt_b (xh_is 1 h12 a15) (fun _ =>
 xt_c (bc - m10) (bs - m11) (fun m16 m17 => F_X2_copy g a15 h12 m16 m17 (fun v19 h18 =>
 xt_b (xh_w [(0, 0)] h18 l0 (va_rf v19)) (fun h20 =>
 Q h20))))))))))))
noncomputable def F_X1_remember (g : xm_G) (p0 : Nat) (h : xm_H) (bc : Nat) (bs : Nat) (Q : xm_H → Prop) : Prop :=
 xt_b (xh_fr [(0, 2)] h p0) (fun v1 =>
 xt_b v1 (fun a2 =>
 xt_b (xh_is 13 h a2) (fun _ =>
 xt_b (F_J3_size g a2 h) (fun v3 =>
 (if v3 = (10 : Int32) then
 xt_b (xh_fr [(0, 2)] h p0) (fun v4 =>
 xt_b v4 (fun a5 =>
 xt_b (xh_is 13 h a5) (fun _ =>
 xt_b (F_J3_removeFirst g a5 h) (fun v6 =>
 B_X1_remember_20 g p0 v6.2 bc bs Q)))) else
 B_X1_remember_20 g p0 h bc bs Q)))))
set_option maxHeartbeats 4000000 in
theorem K_X1_remember {g : xm_G} (hG : xm_Gw g) (p0 : Nat) (h : xm_H) (bc : Nat) (bs : Nat) {Q : xm_H → Prop} (e : F_X1_remember g p0 h bc bs Q) : xm_Run g M_X1_remember 12 [.ref p0] h bc bs (fun v h' => v = none ∧ Q h') xm_no := by
  refine xm_Run.of pn_StringTableau (Nat.le_of_ble_eq_true rfl) (fun Γ hΓ => ?_)
  show xm_W g Γ 0 [some (.ref p0)] [] h bc bs
  have hB_20 : ∀ (l0 : Nat) (h : xm_H) (bc : Nat) (bs : Nat), B_X1_remember_20 g l0 h bc bs Q → xm_W g Γ 20 [some (.ref l0)] [] h bc bs := by
    intro l0 h bc bs e
    unfold B_X1_remember_20 at e
    refine xw_ald (show xm_Imp g Γ 20 (xi_ald 0 21) from xs_aload_n hΓ dX1_remember_20) rfl ?_
    obtain ⟨v7, e1, e⟩ := e
    refine xw_gr1 (o := (some l0)) (show xm_Imp g Γ 21 (xi_get 0 2 24) from xs_get hG hΓ (ci := 0) (kf := 2) rfl (Nat.le_of_ble_eq_true rfl) q347 dX1_remember_21) rfl e1 ?_
    refine xw_ald (show xm_Imp g Γ 24 (xi_ald 0 25) from xs_aload_n hΓ dX1_remember_24) rfl ?_
    obtain ⟨v8, e1, e⟩ := e
    refine xw_gr1 (o := (some l0)) (show xm_Imp g Γ 25 (xi_get 0 0 28) from xs_get hG hΓ (ci := 0) (kf := 0) rfl (Nat.le_of_ble_eq_true rfl) q343 dX1_remember_25) rfl e1 ?_
    obtain ⟨a9, ha9, e⟩ := e
    obtain ⟨_, e0, e⟩ := e
    obtain ⟨m10, m11, ⟨em1, em2⟩, e⟩ := e
    refine xw_tvu1 (o := v7) (show xm_Imp g Γ 28 (xi_vir g 13 M_J3_addLast 10 1 31) from xs_invV hG hΓ k_J3_addLast rfl (ci := 13) rfl q1261 q1262 q1263 dX1_remember_28) (by simp [xm_stk, xv_cat, xc_int, xc_long, xc_float, xc_double, xc_ref]) ha9 e0 em1 em2 (K_J3_addLast hG a9 v8 _ _ _ e) (fun h12 e => ?_)
    refine xw_ald (show xm_Imp g Γ 31 (xi_ald 0 32) from xs_aload_n hΓ dX1_remember_31) rfl ?_
    refine xw_ald (show xm_Imp g Γ 32 (xi_ald 0 33) from xs_aload_n hΓ dX1_remember_32) rfl ?_
    obtain ⟨v14, e1, e⟩ := e
    refine xw_gr1 (o := (some l0)) (show xm_Imp g Γ 33 (xi_get 0 0 36) from xs_get hG hΓ (ci := 0) (kf := 0) rfl (Nat.le_of_ble_eq_true rfl) q343 dX1_remember_33) rfl e1 ?_
    obtain ⟨a15, ha15, e⟩ := e
    obtain ⟨_, e0, e⟩ := e
    obtain ⟨m16, m17, ⟨em1, em2⟩, e⟩ := e
    refine xw_tvr0 (o := v14) (show xm_Imp g Γ 36 (xi_vir g 1 M_X2_copy 11 0 39) from xs_invV hG hΓ k_X2_copy rfl (ci := 1) rfl q1293 q1294 q1295 dX1_remember_36) (by simp [xm_stk, xv_cat, xc_int, xc_long, xc_float, xc_double, xc_ref]) ha15 e0 em1 em2 (K_X2_copy hG a15 _ _ _ e) (fun v19 h18 e => ?_)
    obtain ⟨h20, e1, e⟩ := e
    refine xw_pt1 (o := (some l0)) (show xm_Imp g Γ 39 (xi_put 0 0 (.object "StringTableau$State") 42) from xs_put hG hΓ (ci := 0) (kf := 0) rfl (Nat.le_of_ble_eq_true rfl) rfl (by decide +kernel) q343 dX1_remember_39) rfl (xv_fit (Or.inl ⟨_, rfl⟩) v19) e1 ?_
    exact xw_vret (show xm_Imp g Γ 42 (xi_vret _) from xs_return hΓ rfl dX1_remember_42) ⟨rfl, e⟩
  unfold F_X1_remember at e
  refine xw_ald (show xm_Imp g Γ 0 (xi_ald 0 1) from xs_aload_n hΓ dX1_remember_0) rfl ?_
  obtain ⟨v1, e1, e⟩ := e
  refine xw_gr1 (o := (some p0)) (show xm_Imp g Γ 1 (xi_get 0 2 4) from xs_get hG hΓ (ci := 0) (kf := 2) rfl (Nat.le_of_ble_eq_true rfl) q347 dX1_remember_1) rfl e1 ?_
  obtain ⟨a2, ha2, e⟩ := e
  obtain ⟨_, e0, e⟩ := e
  obtain ⟨v3, e1, e⟩ := e
  refine xw_hv0 (o := v1) (show xm_Imp g Γ 4 (xi_vir g 13 M_J3_size 2 0 7) from xs_invV hG hΓ k_J3_size rfl (ci := 13) rfl q1165 q1166 q1167 dX1_remember_4) (by simp [xm_stk, xv_cat, xc_int, xc_long, xc_float, xc_double, xc_ref]) ha2 e0 (fun Q X hQ => K_J3_size hG a2 _ e1 hQ) ?_
  refine xw_psh (v := (.int (10))) (show xm_Imp g Γ 7 (xi_psh (.int (10)) 9) from xs_bipush hΓ dX1_remember_7 (by decide)) ?_
  refine xw_ic (show xm_Imp g Γ 9 (xi_ic (fun x y => x = y) 12 20) from xs_icmp_ne hΓ dX1_remember_9 (by decide)) (fun c => ?_) (fun c => ?_)
  · rw [if_pos c] at e
    refine xw_ald (show xm_Imp g Γ 12 (xi_ald 0 13) from xs_aload_n hΓ dX1_remember_12) rfl ?_
    obtain ⟨v4, e1, e⟩ := e
    refine xw_gr1 (o := (some p0)) (show xm_Imp g Γ 13 (xi_get 0 2 16) from xs_get hG hΓ (ci := 0) (kf := 2) rfl (Nat.le_of_ble_eq_true rfl) q347 dX1_remember_13) rfl e1 ?_
    obtain ⟨a5, ha5, e⟩ := e
    obtain ⟨_, e0, e⟩ := e
    obtain ⟨v6, e1, e⟩ := e
    refine xw_hv0 (o := v4) (show xm_Imp g Γ 16 (xi_vir g 13 M_J3_removeFirst 8 0 19) from xs_invV hG hΓ k_J3_removeFirst rfl (ci := 13) rfl q1247 q1248 q1249 dX1_remember_16) (by simp [xm_stk, xv_cat, xc_int, xc_long, xc_float, xc_double, xc_ref]) ha5 e0 (fun Q X hQ => K_J3_removeFirst hG a5 _ e1 hQ) ?_
    refine xw_pop (show xm_Imp g Γ 19 (xi_pop 20) from xs_pop hΓ dX1_remember_19) (xm_c1_rf v6.1) ?_
    exact hB_20 _ _ _ _ e
  · rw [if_neg c] at e
    exact hB_20 _ _ _ _ e
noncomputable def F_X9_execute (g : xm_G) (p0 : Nat) (h : xm_H) (bc : Nat) (bs : Nat) (Q : Int32 → xm_H → Prop) : Prop :=
 xt_b (xh_fr [(7, 4)] h p0) (fun v1 =>
 xt_b v1 (fun a2 =>
 xt_b (xh_fr [(0, 0)] h a2) (fun v3 =>
 xt_b v3 (fun a4 =>
 xt_b (xh_fr [(1, 3)] h a4) (fun v5 =>
 xt_b (xh_fi [(7, 3)] h p0) (fun v6 =>
 xt_b (xh_fr [(7, 4)] h p0) (fun v7 =>
 xt_b v7 (fun a8 =>
 xt_b (xh_fr [(0, 0)] h a8) (fun v9 =>
 xt_b (xh_fr [(7, 1)] h p0) (fun v10 =>
 xt_b (xh_fi [(7, 2)] h p0) (fun v11 =>
 xt_b v9 (fun a12 =>
 xt_b (xh_is 1 h a12) (fun _ =>
 xt_c bc bs (fun m13 m14 => F_X2_measure g a12 v10 v11 h m13 m14 (fun v16 h15 =>
 xt_b v5 (fun a17 =>
 xt_b (xh_si .int h15 a17 v6 v16) (fun h18 =>
 Q 1 h18)))))))))))))))))
set_option maxHeartbeats 4000000 in
theorem K_X9_execute {g : xm_G} (hG : xm_Gw g) (p0 : Nat) (h : xm_H) (bc : Nat) (bs : Nat) {Q : Int32 → xm_H → Prop} (e : F_X9_execute g p0 h bc bs Q) : xm_Run g M_X9_execute 13 [.ref p0] h bc bs (fun v h' => ∃ r, v = some (.int r) ∧ Q r h') xm_no := by
  refine xm_Run.of pn_StringTableau_MeasureOperation (Nat.le_of_ble_eq_true rfl) (fun Γ hΓ => ?_)
  show xm_W g Γ 0 [some (.ref p0)] [] h bc bs
  unfold F_X9_execute at e
  refine xw_ald (show xm_Imp g Γ 0 (xi_ald 0 1) from xs_aload_n hΓ dX9_execute_0) rfl ?_
  obtain ⟨v1, e1, e⟩ := e
  refine xw_gr1 (o := (some p0)) (show xm_Imp g Γ 1 (xi_get 7 4 4) from xs_get hG hΓ (ci := 7) (kf := 4) rfl (Nat.le_of_ble_eq_true rfl) q999 dX9_execute_1) rfl e1 ?_
  obtain ⟨a2, ha2, e⟩ := e
  obtain ⟨v3, e1, e⟩ := e
  refine xw_gr1 (o := v1) (show xm_Imp g Γ 4 (xi_get 0 0 7) from xs_getN hG hΓ (ci := 0) (kf := 0) rfl (Nat.le_of_ble_eq_true rfl) q344 dX9_execute_4) ha2 e1 ?_
  obtain ⟨a4, ha4, e⟩ := e
  obtain ⟨v5, e1, e⟩ := e
  refine xw_gr1 (o := v3) (show xm_Imp g Γ 7 (xi_get 1 3 10) from xs_getN hG hΓ (ci := 1) (kf := 3) rfl (Nat.le_of_ble_eq_true rfl) q282 dX9_execute_7) ha4 e1 ?_
  refine xw_ald (show xm_Imp g Γ 10 (xi_ald 0 11) from xs_aload_n hΓ dX9_execute_10) rfl ?_
  obtain ⟨v6, e1, e⟩ := e
  refine xw_gi1 (o := (some p0)) (show xm_Imp g Γ 11 (xi_get 7 3 14) from xs_get hG hΓ (ci := 7) (kf := 3) rfl (Nat.le_of_ble_eq_true rfl) q998 dX9_execute_11) rfl e1 ?_
  refine xw_ald (show xm_Imp g Γ 14 (xi_ald 0 15) from xs_aload_n hΓ dX9_execute_14) rfl ?_
  obtain ⟨v7, e1, e⟩ := e
  refine xw_gr1 (o := (some p0)) (show xm_Imp g Γ 15 (xi_get 7 4 18) from xs_get hG hΓ (ci := 7) (kf := 4) rfl (Nat.le_of_ble_eq_true rfl) q999 dX9_execute_15) rfl e1 ?_
  obtain ⟨a8, ha8, e⟩ := e
  obtain ⟨v9, e1, e⟩ := e
  refine xw_gr1 (o := v7) (show xm_Imp g Γ 18 (xi_get 0 0 21) from xs_getN hG hΓ (ci := 0) (kf := 0) rfl (Nat.le_of_ble_eq_true rfl) q344 dX9_execute_18) ha8 e1 ?_
  refine xw_ald (show xm_Imp g Γ 21 (xi_ald 0 22) from xs_aload_n hΓ dX9_execute_21) rfl ?_
  obtain ⟨v10, e1, e⟩ := e
  refine xw_gr1 (o := (some p0)) (show xm_Imp g Γ 22 (xi_get 7 1 25) from xs_get hG hΓ (ci := 7) (kf := 1) rfl (Nat.le_of_ble_eq_true rfl) q996 dX9_execute_22) rfl e1 ?_
  refine xw_ald (show xm_Imp g Γ 25 (xi_ald 0 26) from xs_aload_n hΓ dX9_execute_25) rfl ?_
  obtain ⟨v11, e1, e⟩ := e
  refine xw_gi1 (o := (some p0)) (show xm_Imp g Γ 26 (xi_get 7 2 29) from xs_get hG hΓ (ci := 7) (kf := 2) rfl (Nat.le_of_ble_eq_true rfl) q997 dX9_execute_26) rfl e1 ?_
  obtain ⟨a12, ha12, e⟩ := e
  obtain ⟨_, e0, e⟩ := e
  obtain ⟨m13, m14, ⟨em1, em2⟩, e⟩ := e
  refine xw_tvi2 (o := v9) (show xm_Imp g Γ 29 (xi_vir g 1 M_X2_measure 12 2 32) from xs_invV hG hΓ k_X2_measure rfl (ci := 1) rfl q1554 q1555 q1556 dX9_execute_29) (by simp [xm_stk, xv_cat, xc_int, xc_long, xc_float, xc_double, xc_ref]) ha12 e0 em1 em2 (K_X2_measure hG a12 v10 v11 _ _ _ e) (fun v16 h15 e => ?_)
  obtain ⟨a17, ha17, e⟩ := e
  obtain ⟨h18, e1, e⟩ := e
  refine xw_hias (o := v5) (show xm_Imp g Γ 32 (xi_ias 33) from xs_ias hG hΓ dX9_execute_32) ha17 e1 ?_
  refine xw_psh (v := (.int (1))) (show xm_Imp g Γ 33 (xi_psh (.int (1)) 34) from xs_iconst hΓ dX9_execute_33 (by decide)) ?_
  exact xw_iret (show xm_Imp g Γ 34 (xi_iret .boolean _) from xs_ireturn hΓ rfl dX9_execute_34) rfl ⟨_, rfl, e⟩
noncomputable def B_X10_execute_29 (g : xm_G) (l0 : Nat) (h : xm_H) (bc : Nat) (bs : Nat) (Q : Int32 → xm_H → Prop) : Prop :=
 xt_b (xh_fr [(8, 4)] h l0) (fun v2 =>
 xt_b v2 (fun a3 =>
 xt_b (xh_fr [(0, 0)] h a3) (fun v4 =>
 xt_b (xh_fi [(7, 0), (8, 0)] h l0) (fun v5 =>
 xt_b (xh_fi [(8, 1)] h l0) (fun v6 =>
 xt_b (xh_fi [(8, 2)] h l0) (fun v7 =>
 xt_b v4 (fun a8 =>
 xt_b (xh_is 1 h a8) (fun _ =>
 xt_c bc bs (fun m9 m10 => F_X2_gateOnTrail g a8 v5 v6 v7 h m9 m10 (fun h11 =>
 Q 1 h11))))))))))
noncomputable def F_X10_execute (g : xm_G) (p0 : Nat) (h : xm_H) (bc : Nat) (bs : Nat) (Q : Int32 → xm_H → Prop) : Prop :=
 xt_b (xh_fi [(8, 3)] h p0) (fun v1 =>
 (if v1 = ((-1) : Int32) then
 B_X10_execute_29 g p0 h bc bs Q else
 xt_b (xh_fr [(8, 4)] h p0) (fun v13 =>
 xt_b v13 (fun a14 =>
 xt_b (xh_fr [(0, 0)] h a14) (fun v15 =>
 xt_b v15 (fun a16 =>
 xt_b (xh_fr [(1, 3)] h a16) (fun v17 =>
 xt_b (xh_fi [(8, 3)] h p0) (fun v18 =>
 xt_b v17 (fun a19 =>
 xt_b (xh_ai .int h a19 v18) (fun v20 =>
 (if v20 = ((-1) : Int32) then
 B_X10_execute_29 g p0 h bc bs Q else
 Q 0 h)))))))))))
set_option maxHeartbeats 4000000 in
theorem K_X10_execute {g : xm_G} (hG : xm_Gw g) (p0 : Nat) (h : xm_H) (bc : Nat) (bs : Nat) {Q : Int32 → xm_H → Prop} (e : F_X10_execute g p0 h bc bs Q) : xm_Run g M_X10_execute 12 [.ref p0] h bc bs (fun v h' => ∃ r, v = some (.int r) ∧ Q r h') xm_no := by
  refine xm_Run.of pn_StringTableau_GateOperation (Nat.le_of_ble_eq_true rfl) (fun Γ hΓ => ?_)
  show xm_W g Γ 0 [some (.ref p0)] [] h bc bs
  have hB_29 : ∀ (l0 : Nat) (h : xm_H) (bc : Nat) (bs : Nat), B_X10_execute_29 g l0 h bc bs Q → xm_W g Γ 29 [some (.ref l0)] [] h bc bs := by
    intro l0 h bc bs e
    unfold B_X10_execute_29 at e
    refine xw_ald (show xm_Imp g Γ 29 (xi_ald 0 30) from xs_aload_n hΓ dX10_execute_29) rfl ?_
    obtain ⟨v2, e1, e⟩ := e
    refine xw_gr1 (o := (some l0)) (show xm_Imp g Γ 30 (xi_get 8 4 33) from xs_get hG hΓ (ci := 8) (kf := 4) rfl (Nat.le_of_ble_eq_true rfl) q1101 dX10_execute_30) rfl e1 ?_
    obtain ⟨a3, ha3, e⟩ := e
    obtain ⟨v4, e1, e⟩ := e
    refine xw_gr1 (o := v2) (show xm_Imp g Γ 33 (xi_get 0 0 36) from xs_getN hG hΓ (ci := 0) (kf := 0) rfl (Nat.le_of_ble_eq_true rfl) q345 dX10_execute_33) ha3 e1 ?_
    refine xw_ald (show xm_Imp g Γ 36 (xi_ald 0 37) from xs_aload_n hΓ dX10_execute_36) rfl ?_
    obtain ⟨v5, e1, e⟩ := e
    refine xw_gi2 (o := (some l0)) (xm_or1 (show xm_Imp g Γ 37 (xi_or (xi_get 7 0 40) (xi_get 8 0 40)) from xs_or (xs_getN hG hΓ (ci := 7) (kf := 0) rfl (Nat.le_of_ble_eq_true rfl) q1001 dX10_execute_37) (xs_getN hG hΓ (ci := 8) (kf := 0) rfl (Nat.le_of_ble_eq_true rfl) q1001 dX10_execute_37))) (xm_or2 (show xm_Imp g Γ 37 (xi_or (xi_get 7 0 40) (xi_get 8 0 40)) from xs_or (xs_getN hG hΓ (ci := 7) (kf := 0) rfl (Nat.le_of_ble_eq_true rfl) q1001 dX10_execute_37) (xs_getN hG hΓ (ci := 8) (kf := 0) rfl (Nat.le_of_ble_eq_true rfl) q1001 dX10_execute_37))) rfl e1 ?_
    refine xw_ald (show xm_Imp g Γ 40 (xi_ald 0 41) from xs_aload_n hΓ dX10_execute_40) rfl ?_
    obtain ⟨v6, e1, e⟩ := e
    refine xw_gi1 (o := (some l0)) (show xm_Imp g Γ 41 (xi_get 8 1 44) from xs_get hG hΓ (ci := 8) (kf := 1) rfl (Nat.le_of_ble_eq_true rfl) q1098 dX10_execute_41) rfl e1 ?_
    refine xw_ald (show xm_Imp g Γ 44 (xi_ald 0 45) from xs_aload_n hΓ dX10_execute_44) rfl ?_
    obtain ⟨v7, e1, e⟩ := e
    refine xw_gi1 (o := (some l0)) (show xm_Imp g Γ 45 (xi_get 8 2 48) from xs_get hG hΓ (ci := 8) (kf := 2) rfl (Nat.le_of_ble_eq_true rfl) q1099 dX10_execute_45) rfl e1 ?_
    obtain ⟨a8, ha8, e⟩ := e
    obtain ⟨_, e0, e⟩ := e
    obtain ⟨m9, m10, ⟨em1, em2⟩, e⟩ := e
    refine xw_tvu3 (o := v4) (show xm_Imp g Γ 48 (xi_vir g 1 M_X2_gateOnTrail 11 3 51) from xs_invV hG hΓ k_X2_gateOnTrail rfl (ci := 1) rfl q1468 q1469 q1470 dX10_execute_48) (by simp [xm_stk, xv_cat, xc_int, xc_long, xc_float, xc_double, xc_ref]) ha8 e0 em1 em2 (K_X2_gateOnTrail hG a8 v5 v6 v7 _ _ _ e) (fun h11 e => ?_)
    refine xw_psh (v := (.int (1))) (show xm_Imp g Γ 51 (xi_psh (.int (1)) 52) from xs_iconst hΓ dX10_execute_51 (by decide)) ?_
    exact xw_iret (show xm_Imp g Γ 52 (xi_iret .boolean _) from xs_ireturn hΓ rfl dX10_execute_52) rfl ⟨_, rfl, e⟩
  unfold F_X10_execute at e
  refine xw_ald (show xm_Imp g Γ 0 (xi_ald 0 1) from xs_aload_n hΓ dX10_execute_0) rfl ?_
  obtain ⟨v1, e1, e⟩ := e
  refine xw_gi1 (o := (some p0)) (show xm_Imp g Γ 1 (xi_get 8 3 4) from xs_get hG hΓ (ci := 8) (kf := 3) rfl (Nat.le_of_ble_eq_true rfl) q1100 dX10_execute_1) rfl e1 ?_
  refine xw_psh (v := (.int (-1))) (show xm_Imp g Γ 4 (xi_psh (.int (-1)) 5) from xs_iconst hΓ dX10_execute_4 (by decide)) ?_
  refine xw_ic (show xm_Imp g Γ 5 (xi_ic (fun x y => x = y) 29 8) from xs_icmp_eq hΓ dX10_execute_5 (by decide)) (fun c => ?_) (fun c => ?_)
  · rw [if_pos c] at e
    exact hB_29 _ _ _ _ e
  · rw [if_neg c] at e
    refine xw_ald (show xm_Imp g Γ 8 (xi_ald 0 9) from xs_aload_n hΓ dX10_execute_8) rfl ?_
    obtain ⟨v13, e1, e⟩ := e
    refine xw_gr1 (o := (some p0)) (show xm_Imp g Γ 9 (xi_get 8 4 12) from xs_get hG hΓ (ci := 8) (kf := 4) rfl (Nat.le_of_ble_eq_true rfl) q1101 dX10_execute_9) rfl e1 ?_
    obtain ⟨a14, ha14, e⟩ := e
    obtain ⟨v15, e1, e⟩ := e
    refine xw_gr1 (o := v13) (show xm_Imp g Γ 12 (xi_get 0 0 15) from xs_getN hG hΓ (ci := 0) (kf := 0) rfl (Nat.le_of_ble_eq_true rfl) q345 dX10_execute_12) ha14 e1 ?_
    obtain ⟨a16, ha16, e⟩ := e
    obtain ⟨v17, e1, e⟩ := e
    refine xw_gr1 (o := v15) (show xm_Imp g Γ 15 (xi_get 1 3 18) from xs_getN hG hΓ (ci := 1) (kf := 3) rfl (Nat.le_of_ble_eq_true rfl) q283 dX10_execute_15) ha16 e1 ?_
    refine xw_ald (show xm_Imp g Γ 18 (xi_ald 0 19) from xs_aload_n hΓ dX10_execute_18) rfl ?_
    obtain ⟨v18, e1, e⟩ := e
    refine xw_gi1 (o := (some p0)) (show xm_Imp g Γ 19 (xi_get 8 3 22) from xs_get hG hΓ (ci := 8) (kf := 3) rfl (Nat.le_of_ble_eq_true rfl) q1100 dX10_execute_19) rfl e1 ?_
    obtain ⟨a19, ha19, e⟩ := e
    obtain ⟨v20, e1, e⟩ := e
    refine xw_hial (o := v17) (show xm_Imp g Γ 22 (xi_ial 23) from xs_ial hG hΓ dX10_execute_22) ha19 e1 ?_
    refine xw_psh (v := (.int (-1))) (show xm_Imp g Γ 23 (xi_psh (.int (-1)) 24) from xs_iconst hΓ dX10_execute_23 (by decide)) ?_
    refine xw_ic (show xm_Imp g Γ 24 (xi_ic (fun x y => x = y) 29 27) from xs_icmp_eq hΓ dX10_execute_24 (by decide)) (fun c => ?_) (fun c => ?_)
    · rw [if_pos c] at e
      exact hB_29 _ _ _ _ e
    · rw [if_neg c] at e
      refine xw_psh (v := (.int (0))) (show xm_Imp g Γ 27 (xi_psh (.int (0)) 28) from xs_iconst hΓ dX10_execute_27 (by decide)) ?_
      exact xw_iret (show xm_Imp g Γ 28 (xi_iret .boolean _) from xs_ireturn hΓ rfl dX10_execute_28) rfl ⟨_, rfl, e⟩
noncomputable def F_X1_executeNext (g : xm_G) (p0 : Nat) (h : xm_H) (bc : Nat) (bs : Nat) (Q : Int32 → xm_H → Prop) : Prop :=
 xt_b (xh_fr [(0, 1)] h p0) (fun v1 =>
 xt_b (xh_fr [(0, 0)] h p0) (fun v2 =>
 xt_b v2 (fun a3 =>
 xt_b (xh_fi [(1, 5)] h a3) (fun v4 =>
 xt_b v1 (fun a5 =>
 xt_b (xh_is 12 h a5) (fun _ =>
 xt_b (F_J2_get g a5 v4 h) (fun v6 =>
 xt_b (xh_castY "StringTableau$Operation" h v6) (fun _ =>
 xt_b v6 (fun a7 =>
 xt_b (xh_ci h a7) (fun c8 =>
 (if c8 = 7 then
 xt_c bc bs (fun m9 m10 => F_X9_execute g a7 h m9 m10 (fun v12 h11 =>
 xt_b (xh_fr [(0, 0)] h11 p0) (fun v13 =>
 xt_b v13 (fun a14 =>
 xt_b (xh_fi [(1, 5)] h11 a14) (fun v15 =>
 xt_b (xh_w [(1, 5)] h11 a14 (.int (v15 + 1))) (fun h16 =>
 xt_b (xb_chk .boolean v12) (fun _ =>
 Q v12 h16))))))) else
 (if c8 = 8 then
 xt_c bc bs (fun m17 m18 => F_X10_execute g a7 h m17 m18 (fun v20 h19 =>
 xt_b (xh_fr [(0, 0)] h19 p0) (fun v21 =>
 xt_b v21 (fun a22 =>
 xt_b (xh_fi [(1, 5)] h19 a22) (fun v23 =>
 xt_b (xh_w [(1, 5)] h19 a22 (.int (v23 + 1))) (fun h24 =>
 xt_b (xb_chk .boolean v20) (fun _ =>
 Q v20 h24))))))) else
 False))))))))))))
set_option maxHeartbeats 4000000 in
theorem K_X1_executeNext {g : xm_G} (hG : xm_Gw g) (p0 : Nat) (h : xm_H) (bc : Nat) (bs : Nat) {Q : Int32 → xm_H → Prop} (e : F_X1_executeNext g p0 h bc bs Q) : xm_Run g M_X1_executeNext 14 [.ref p0] h bc bs (fun v h' => ∃ r, v = some (.int r) ∧ Q r h') xm_no := by
  refine xm_Run.of pn_StringTableau (Nat.le_of_ble_eq_true rfl) (fun Γ hΓ => ?_)
  show xm_W g Γ 0 [some (.ref p0), none] [] h bc bs
  unfold F_X1_executeNext at e
  refine xw_ald (show xm_Imp g Γ 0 (xi_ald 0 1) from xs_aload_n hΓ dX1_executeNext_0) rfl ?_
  obtain ⟨v1, e1, e⟩ := e
  refine xw_gr1 (o := (some p0)) (show xm_Imp g Γ 1 (xi_get 0 1 4) from xs_get hG hΓ (ci := 0) (kf := 1) rfl (Nat.le_of_ble_eq_true rfl) q346 dX1_executeNext_1) rfl e1 ?_
  refine xw_ald (show xm_Imp g Γ 4 (xi_ald 0 5) from xs_aload_n hΓ dX1_executeNext_4) rfl ?_
  obtain ⟨v2, e1, e⟩ := e
  refine xw_gr1 (o := (some p0)) (show xm_Imp g Γ 5 (xi_get 0 0 8) from xs_get hG hΓ (ci := 0) (kf := 0) rfl (Nat.le_of_ble_eq_true rfl) q343 dX1_executeNext_5) rfl e1 ?_
  obtain ⟨a3, ha3, e⟩ := e
  obtain ⟨v4, e1, e⟩ := e
  refine xw_gi1 (o := v2) (show xm_Imp g Γ 8 (xi_get 1 5 11) from xs_getN hG hΓ (ci := 1) (kf := 5) rfl (Nat.le_of_ble_eq_true rfl) q286 dX1_executeNext_8) ha3 e1 ?_
  obtain ⟨a5, ha5, e⟩ := e
  obtain ⟨_, e0, e⟩ := e
  obtain ⟨v6, e1, e⟩ := e
  refine xw_hv1 (o := v1) (show xm_Imp g Γ 11 (xi_vir g 12 M_J2_get 10 1 16) from xs_invF hG hΓ k_J2_get rfl (ci := 12) rfl q1148 q1153 q1151 ⟨by decide, by decide⟩ (by decide +kernel) q1150 q1149 q1154 q1152 q903 dX1_executeNext_11) (by simp [xm_stk, xv_cat, xc_int, xc_long, xc_float, xc_double, xc_ref]) ha5 e0 (fun Q X hQ => K_J2_get hG a5 v4 _ e1 hQ) ?_
  obtain ⟨_, e1, e⟩ := e
  refine xw_castY (o := v6) (show xm_Imp g Γ 16 (xi_castY "StringTableau$Operation" 19) from xs_castY hG hΓ q1180 dX1_executeNext_16) e1 ?_
  obtain ⟨a7, ha7, e⟩ := e
  obtain ⟨c8, e0, e⟩ := e
  by_cases cc0 : c8 = 7
  · rw [if_pos cc0] at e
    obtain ⟨m9, m10, ⟨em1, em2⟩, e⟩ := e
    refine xw_tvi0 (o := v6) (xm_or1 (show xm_Imp g Γ 19 (xi_or (xi_vir g 7 M_X9_execute 13 0 22) (xi_vir g 8 M_X10_execute 12 0 22)) from xs_or (xs_invA hG hΓ (owner := "StringTableau$Operation") k_X9_execute rfl (ci := 7) rfl q1462 q1464 q1552 q1551 q1463 ⟨by decide, by decide⟩ (by decide +kernel) dX1_executeNext_19) (xs_invA hG hΓ (owner := "StringTableau$Operation") k_X10_execute rfl (ci := 8) rfl q1462 q1464 q1466 q1465 q1463 ⟨by decide, by decide⟩ (by decide +kernel) dX1_executeNext_19))) (by simp [xm_stk, xv_cat, xc_int, xc_long, xc_float, xc_double, xc_ref]) ha7 (xh_is_of e0 cc0) em1 em2 (K_X9_execute hG a7 _ _ _ e) (fun v12 h11 e => ?_)
    refine xw_ist (ls' := [some (.ref p0), some (.int v12)]) (show xm_Imp g Γ 22 (xi_ist 1 23) from xs_istore_n hΓ dX1_executeNext_22 (Nat.le_of_ble_eq_true rfl)) rfl ?_
    refine xw_ald (show xm_Imp g Γ 23 (xi_ald 0 24) from xs_aload_n hΓ dX1_executeNext_23) rfl ?_
    obtain ⟨v13, e1, e⟩ := e
    refine xw_gr1 (o := (some p0)) (show xm_Imp g Γ 24 (xi_get 0 0 27) from xs_get hG hΓ (ci := 0) (kf := 0) rfl (Nat.le_of_ble_eq_true rfl) q343 dX1_executeNext_24) rfl e1 ?_
    refine xw_dup (show xm_Imp g Γ 27 (xi_dup 28) from xs_dup hΓ dX1_executeNext_27) (xm_c1_rf v13) ?_
    obtain ⟨a14, ha14, e⟩ := e
    obtain ⟨v15, e1, e⟩ := e
    refine xw_gi1 (o := v13) (show xm_Imp g Γ 28 (xi_get 1 5 31) from xs_getN hG hΓ (ci := 1) (kf := 5) rfl (Nat.le_of_ble_eq_true rfl) q286 dX1_executeNext_28) ha14 e1 ?_
    refine xw_psh (v := (.int (1))) (show xm_Imp g Γ 31 (xi_psh (.int (1)) 32) from xs_iconst hΓ dX1_executeNext_31 (by decide)) ?_
    refine xw_ii (show xm_Imp g Γ 32 (xi_ii (fun x y => x + y) 33) from xs_iadd hΓ dX1_executeNext_32) ?_
    obtain ⟨h16, e1, e⟩ := e
    refine xw_pt1 (o := v13) (show xm_Imp g Γ 33 (xi_put 1 5 (.int) 36) from xs_putN hG hΓ (ci := 1) (kf := 5) rfl (Nat.le_of_ble_eq_true rfl) rfl (by decide +kernel) q286 dX1_executeNext_33) ha14 (xf_int _) e1 ?_
    refine xw_ild (show xm_Imp g Γ 36 (xi_ild 1 37) from xs_iload_n hΓ dX1_executeNext_36) rfl ?_
    obtain ⟨_, e1, e⟩ := e
    exact xw_iret (show xm_Imp g Γ 37 (xi_iret .boolean _) from xs_ireturn hΓ rfl dX1_executeNext_37) (xb_of e1) ⟨_, rfl, e⟩
  rw [if_neg cc0] at e
  by_cases cc1 : c8 = 8
  · rw [if_pos cc1] at e
    obtain ⟨m17, m18, ⟨em1, em2⟩, e⟩ := e
    refine xw_tvi0 (o := v6) (xm_or2 (show xm_Imp g Γ 19 (xi_or (xi_vir g 7 M_X9_execute 13 0 22) (xi_vir g 8 M_X10_execute 12 0 22)) from xs_or (xs_invA hG hΓ (owner := "StringTableau$Operation") k_X9_execute rfl (ci := 7) rfl q1462 q1464 q1552 q1551 q1463 ⟨by decide, by decide⟩ (by decide +kernel) dX1_executeNext_19) (xs_invA hG hΓ (owner := "StringTableau$Operation") k_X10_execute rfl (ci := 8) rfl q1462 q1464 q1466 q1465 q1463 ⟨by decide, by decide⟩ (by decide +kernel) dX1_executeNext_19))) (by simp [xm_stk, xv_cat, xc_int, xc_long, xc_float, xc_double, xc_ref]) ha7 (xh_is_of e0 cc1) em1 em2 (K_X10_execute hG a7 _ _ _ e) (fun v20 h19 e => ?_)
    refine xw_ist (ls' := [some (.ref p0), some (.int v20)]) (show xm_Imp g Γ 22 (xi_ist 1 23) from xs_istore_n hΓ dX1_executeNext_22 (Nat.le_of_ble_eq_true rfl)) rfl ?_
    refine xw_ald (show xm_Imp g Γ 23 (xi_ald 0 24) from xs_aload_n hΓ dX1_executeNext_23) rfl ?_
    obtain ⟨v21, e1, e⟩ := e
    refine xw_gr1 (o := (some p0)) (show xm_Imp g Γ 24 (xi_get 0 0 27) from xs_get hG hΓ (ci := 0) (kf := 0) rfl (Nat.le_of_ble_eq_true rfl) q343 dX1_executeNext_24) rfl e1 ?_
    refine xw_dup (show xm_Imp g Γ 27 (xi_dup 28) from xs_dup hΓ dX1_executeNext_27) (xm_c1_rf v21) ?_
    obtain ⟨a22, ha22, e⟩ := e
    obtain ⟨v23, e1, e⟩ := e
    refine xw_gi1 (o := v21) (show xm_Imp g Γ 28 (xi_get 1 5 31) from xs_getN hG hΓ (ci := 1) (kf := 5) rfl (Nat.le_of_ble_eq_true rfl) q286 dX1_executeNext_28) ha22 e1 ?_
    refine xw_psh (v := (.int (1))) (show xm_Imp g Γ 31 (xi_psh (.int (1)) 32) from xs_iconst hΓ dX1_executeNext_31 (by decide)) ?_
    refine xw_ii (show xm_Imp g Γ 32 (xi_ii (fun x y => x + y) 33) from xs_iadd hΓ dX1_executeNext_32) ?_
    obtain ⟨h24, e1, e⟩ := e
    refine xw_pt1 (o := v21) (show xm_Imp g Γ 33 (xi_put 1 5 (.int) 36) from xs_putN hG hΓ (ci := 1) (kf := 5) rfl (Nat.le_of_ble_eq_true rfl) rfl (by decide +kernel) q286 dX1_executeNext_33) ha22 (xf_int _) e1 ?_
    refine xw_ild (show xm_Imp g Γ 36 (xi_ild 1 37) from xs_iload_n hΓ dX1_executeNext_36) rfl ?_
    obtain ⟨_, e1, e⟩ := e
    exact xw_iret (show xm_Imp g Γ 37 (xi_iret .boolean _) from xs_ireturn hΓ rfl dX1_executeNext_37) (xb_of e1) ⟨_, rfl, e⟩
  rw [if_neg cc1] at e
  exact e.elim
noncomputable def F_X1_step (g : xm_G) (p0 : Nat) (h : xm_H) (bc : Nat) (bs : Nat) (Q : Int32 → xm_H → Prop) : Prop :=
 xt_b (xh_is 0 h p0) (fun _ =>
 xt_c bc bs (fun m1 m2 => F_X1_canStep g p0 h m1 m2 (fun v4 h3 =>
 (if v4 = 0 then
 Q (-1) h3 else
 xt_b (xh_is 0 h3 p0) (fun _ =>
 xt_c (bc - m1) (bs - m2) (fun m5 m6 => F_X1_remember g p0 h3 m5 m6 (fun h7 =>
 xt_b (xh_is 0 h7 p0) (fun _ =>
 xt_c ((bc - m1) - m5) ((bs - m2) - m6) (fun m9 m10 => F_X1_executeNext g p0 h7 m9 m10 (fun v12 h11 =>
 (if v12 = 0 then
 Q 0 h11 else
 Q 1 h11)))))))))))
set_option maxHeartbeats 4000000 in
theorem K_X1_step {g : xm_G} (hG : xm_Gw g) (p0 : Nat) (h : xm_H) (bc : Nat) (bs : Nat) {Q : Int32 → xm_H → Prop} (e : F_X1_step g p0 h bc bs Q) : xm_Run g M_X1_step 15 [.ref p0] h bc bs (fun v h' => ∃ r, v = some (.int r) ∧ Q r h') xm_no := by
  refine xm_Run.of pn_StringTableau (Nat.le_of_ble_eq_true rfl) (fun Γ hΓ => ?_)
  show xm_W g Γ 0 [some (.ref p0)] [] h bc bs
  unfold F_X1_step at e
  refine xw_ald (show xm_Imp g Γ 0 (xi_ald 0 1) from xs_aload_n hΓ dX1_step_0) rfl ?_
  obtain ⟨_, e0, e⟩ := e
  obtain ⟨m1, m2, ⟨em1, em2⟩, e⟩ := e
  refine xw_tvi0 (o := (some p0)) (show xm_Imp g Γ 1 (xi_vir g 0 M_X1_canStep 11 0 4) from xs_invV hG hΓ k_X1_canStep rfl (ci := 0) rfl q1176 q1178 qs22 dX1_step_1) rfl rfl e0 em1 em2 (K_X1_canStep hG p0 _ _ _ e) (fun v4 h3 e => ?_)
  refine xw_if (show xm_Imp g Γ 4 (xi_if (fun x => x = 0) 7 9) from xs_if_ne hΓ dX1_step_4 (by decide)) (fun c => ?_) (fun c => ?_)
  · rw [if_pos c] at e
    refine xw_psh (v := (.int (-1))) (show xm_Imp g Γ 7 (xi_psh (.int (-1)) 8) from xs_iconst hΓ dX1_step_7 (by decide)) ?_
    exact xw_iret (show xm_Imp g Γ 8 (xi_iret .int _) from xs_ireturn hΓ rfl dX1_step_8) (xn_int _) ⟨_, rfl, e⟩
  · rw [if_neg c] at e
    refine xw_ald (show xm_Imp g Γ 9 (xi_ald 0 10) from xs_aload_n hΓ dX1_step_9) rfl ?_
    obtain ⟨_, e0, e⟩ := e
    obtain ⟨m5, m6, ⟨em1, em2⟩, e⟩ := e
    refine xw_tvu0 (o := (some p0)) (show xm_Imp g Γ 10 (xi_vir g 0 M_X1_remember 12 0 13) from xs_invV hG hΓ k_X1_remember rfl (ci := 0) rfl q1243 q1245 qs23 dX1_step_10) rfl rfl e0 em1 em2 (K_X1_remember hG p0 _ _ _ e) (fun h7 e => ?_)
    refine xw_ald (show xm_Imp g Γ 13 (xi_ald 0 14) from xs_aload_n hΓ dX1_step_13) rfl ?_
    obtain ⟨_, e0, e⟩ := e
    obtain ⟨m9, m10, ⟨em1, em2⟩, e⟩ := e
    refine xw_tvi0 (o := (some p0)) (show xm_Imp g Γ 14 (xi_vir g 0 M_X1_executeNext 14 0 17) from xs_invV hG hΓ k_X1_executeNext rfl (ci := 0) rfl q1458 q1460 qs27 dX1_step_14) rfl rfl e0 em1 em2 (K_X1_executeNext hG p0 _ _ _ e) (fun v12 h11 e => ?_)
    refine xw_if (show xm_Imp g Γ 17 (xi_if (fun x => x = 0) 24 20) from xs_if_eq hΓ dX1_step_17 (by decide)) (fun c => ?_) (fun c => ?_)
    · rw [if_pos c] at e
      refine xw_psh (v := (.int (0))) (show xm_Imp g Γ 24 (xi_psh (.int (0)) 25) from xs_iconst hΓ dX1_step_24 (by decide)) ?_
      exact xw_iret (show xm_Imp g Γ 25 (xi_iret .int _) from xs_ireturn hΓ rfl dX1_step_25) (xn_int _) ⟨_, rfl, e⟩
    · rw [if_neg c] at e
      refine xw_psh (v := (.int (1))) (show xm_Imp g Γ 20 (xi_psh (.int (1)) 21) from xs_iconst hΓ dX1_step_20 (by decide)) ?_
      refine xw_goto (show xm_Imp g Γ 21 (xi_goto 25) from xs_goto hΓ dX1_step_21 (by decide)) ?_
      exact xw_iret (show xm_Imp g Γ 25 (xi_iret .int _) from xs_ireturn hΓ rfl dX1_step_25) (xn_int _) ⟨_, rfl, e⟩
noncomputable def D_X1_runnable_18 (g : xm_G) (l0 : Nat) (l1 : Option Nat) (Q : Int32 → xm_H → Prop) (k18 : Int32 × xm_H × Nat × Nat → Prop) (s : Int32 × xm_H × Nat × Nat) : Prop :=
 xt_b (xh_is 0 s.2.1 l0) (fun _ =>
 xt_c s.2.2.1 s.2.2.2 (fun m9 m10 => F_X1_canStep g l0 s.2.1 m9 m10 (fun v12 h11 =>
 (if v12 = 0 then
 xt_b (xh_w [(0, 0)] h11 l0 (va_rf l1)) (fun h13 =>
 Q s.1 h13) else
 xt_b (xh_is 0 h11 l0) (fun _ =>
 xt_c (s.2.2.1 - m9) (s.2.2.2 - m10) (fun m14 m15 => F_X1_executeNext g l0 h11 m14 m15 (fun v17 h16 =>
 k18 ((s.1 + 1), h16, ((s.2.2.1 - m9) - m14), ((s.2.2.2 - m10) - m15)))))))))
noncomputable def L_X1_runnable_18 (g : xm_G) (l0 : Nat) (l1 : Option Nat) (Q : Int32 → xm_H → Prop) (s : Int32 × xm_H × Nat × Nat) : Prop := xt_loop (D_X1_runnable_18 g l0 l1 Q) s
noncomputable def F_X1_runnable (g : xm_G) (p0 : Nat) (h : xm_H) (bc : Nat) (bs : Nat) (Q : Int32 → xm_H → Prop) : Prop :=
 xt_b (xh_fr [(0, 0)] h p0) (fun v1 =>
 xt_b (xh_fr [(0, 0)] h p0) (fun v2 =>
 xt_b v2 (fun a3 =>
 xt_b (xh_is 1 h a3) (fun _ =>
 xt_c bc bs (fun m4 m5 => F_X2_copy g a3 h m4 m5 (fun v7 h6 =>
 xt_b (xh_w [(0, 0)] h6 p0 (va_rf v7)) (fun h8 =>
 L_X1_runnable_18 g p0 v1 Q (0, h8, (bc - m4), (bs - m5)))))))))
set_option maxHeartbeats 4000000 in
theorem K_X1_runnable {g : xm_G} (hG : xm_Gw g) (p0 : Nat) (h : xm_H) (bc : Nat) (bs : Nat) {Q : Int32 → xm_H → Prop} (e : F_X1_runnable g p0 h bc bs Q) : xm_Run g M_X1_runnable 15 [.ref p0] h bc bs (fun v h' => ∃ r, v = some (.int r) ∧ Q r h') xm_no := by
  refine xm_Run.of pn_StringTableau (Nat.le_of_ble_eq_true rfl) (fun Γ hΓ => ?_)
  show xm_W g Γ 0 [some (.ref p0), none, none, none, none] [] h bc bs
  have hL_18 : ∀ (l0 : Nat) (l1 : Option Nat) (s : Int32 × xm_H × Nat × Nat), L_X1_runnable_18 g l0 l1 Q s → xm_W g Γ 18 [some (.ref l0), some (va_rf l1), some (.int s.1), none, none] [] s.2.1 s.2.2.1 s.2.2.2 := by
    intro l0 l1
    refine xt_rule (WS := fun s : Int32 × xm_H × Nat × Nat => xm_W g Γ 18 [some (.ref l0), some (va_rf l1), some (.int s.1), none, none] [] s.2.1 s.2.2.1 s.2.2.2) ?_
    intro k18 hk18 s e
    unfold D_X1_runnable_18 at e
    refine xw_ald (show xm_Imp g Γ 18 (xi_ald 0 19) from xs_aload_n hΓ dX1_runnable_18) rfl ?_
    obtain ⟨_, e0, e⟩ := e
    obtain ⟨m9, m10, ⟨em1, em2⟩, e⟩ := e
    refine xw_tvi0 (o := (some l0)) (show xm_Imp g Γ 19 (xi_vir g 0 M_X1_canStep 11 0 22) from xs_invV hG hΓ k_X1_canStep rfl (ci := 0) rfl q1176 q1178 qs22 dX1_runnable_19) rfl rfl e0 em1 em2 (K_X1_canStep hG l0 _ _ _ e) (fun v12 h11 e => ?_)
    refine xw_if (show xm_Imp g Γ 22 (xi_if (fun x => x = 0) 36 25) from xs_if_eq hΓ dX1_runnable_22 (by decide)) (fun c => ?_) (fun c => ?_)
    · rw [if_pos c] at e
      refine xw_ild (show xm_Imp g Γ 36 (xi_ild 2 37) from xs_iload_n hΓ dX1_runnable_36) rfl ?_
      refine xw_ist (ls' := [some (.ref l0), some (va_rf l1), some (.int s.1), some (.int s.1), none]) (show xm_Imp g Γ 37 (xi_ist 3 38) from xs_istore_n hΓ dX1_runnable_37 (Nat.le_of_ble_eq_true rfl)) rfl ?_
      refine xw_ald (show xm_Imp g Γ 38 (xi_ald 0 39) from xs_aload_n hΓ dX1_runnable_38) rfl ?_
      refine xw_aldo (x := l1) (show xm_Imp g Γ 39 (xi_ald 1 40) from xs_aload_n hΓ dX1_runnable_39) rfl ?_
      obtain ⟨h13, e1, e⟩ := e
      refine xw_pt1 (o := (some l0)) (show xm_Imp g Γ 40 (xi_put 0 0 (.object "StringTableau$State") 43) from xs_put hG hΓ (ci := 0) (kf := 0) rfl (Nat.le_of_ble_eq_true rfl) rfl (by decide +kernel) q343 dX1_runnable_40) rfl (xv_fit (Or.inl ⟨_, rfl⟩) l1) e1 ?_
      refine xw_ild (show xm_Imp g Γ 43 (xi_ild 3 44) from xs_iload_n hΓ dX1_runnable_43) rfl ?_
      exact xw_iret (show xm_Imp g Γ 44 (xi_iret .int _) from xs_ireturn hΓ rfl dX1_runnable_44) (xn_int _) ⟨_, rfl, e⟩
    · rw [if_neg c] at e
      refine xw_ald (show xm_Imp g Γ 25 (xi_ald 0 26) from xs_aload_n hΓ dX1_runnable_25) rfl ?_
      obtain ⟨_, e0, e⟩ := e
      obtain ⟨m14, m15, ⟨em1, em2⟩, e⟩ := e
      refine xw_tvi0 (o := (some l0)) (show xm_Imp g Γ 26 (xi_vir g 0 M_X1_executeNext 14 0 29) from xs_invV hG hΓ k_X1_executeNext rfl (ci := 0) rfl q1458 q1460 qs27 dX1_runnable_26) rfl rfl e0 em1 em2 (K_X1_executeNext hG l0 _ _ _ e) (fun v17 h16 e => ?_)
      refine xw_pop (show xm_Imp g Γ 29 (xi_pop 30) from xs_pop hΓ dX1_runnable_29) rfl ?_
      refine xw_inc (v := (1)) (ls' := [some (.ref l0), some (va_rf l1), some (.int (s.1 + 1)), none, none]) (show xm_Imp g Γ 30 (xi_inc 2 (1) 33) from xs_iinc hΓ dX1_runnable_30 (by decide) (Nat.le_of_ble_eq_true rfl)) rfl ((xm_s1_o (o := l1) rfl).trans rfl) ?_
      refine xw_goto (show xm_Imp g Γ 33 (xi_goto 18) from xs_goto hΓ dX1_runnable_33 (by decide)) ?_
      have hq := hk18 _ e; exact hq
  unfold F_X1_runnable at e
  refine xw_ald (show xm_Imp g Γ 0 (xi_ald 0 1) from xs_aload_n hΓ dX1_runnable_0) rfl ?_
  obtain ⟨v1, e1, e⟩ := e
  refine xw_gr1 (o := (some p0)) (show xm_Imp g Γ 1 (xi_get 0 0 4) from xs_get hG hΓ (ci := 0) (kf := 0) rfl (Nat.le_of_ble_eq_true rfl) q343 dX1_runnable_1) rfl e1 ?_
  refine xw_asto (x := v1) (ls' := [some (.ref p0), some (va_rf v1), none, none, none]) (show xm_Imp g Γ 4 (xi_ast 1 5) from xs_astore_n hΓ dX1_runnable_4 (Nat.le_of_ble_eq_true rfl)) rfl ?_
  refine xw_ald (show xm_Imp g Γ 5 (xi_ald 0 6) from xs_aload_n hΓ dX1_runnable_5) rfl ?_
  refine xw_ald (show xm_Imp g Γ 6 (xi_ald 0 7) from xs_aload_n hΓ dX1_runnable_6) rfl ?_
  obtain ⟨v2, e1, e⟩ := e
  refine xw_gr1 (o := (some p0)) (show xm_Imp g Γ 7 (xi_get 0 0 10) from xs_get hG hΓ (ci := 0) (kf := 0) rfl (Nat.le_of_ble_eq_true rfl) q343 dX1_runnable_7) rfl e1 ?_
  obtain ⟨a3, ha3, e⟩ := e
  obtain ⟨_, e0, e⟩ := e
  obtain ⟨m4, m5, ⟨em1, em2⟩, e⟩ := e
  refine xw_tvr0 (o := v2) (show xm_Imp g Γ 10 (xi_vir g 1 M_X2_copy 11 0 13) from xs_invV hG hΓ k_X2_copy rfl (ci := 1) rfl q1293 q1294 q1295 dX1_runnable_10) (by simp [xm_stk, xv_cat, xc_int, xc_long, xc_float, xc_double, xc_ref]) ha3 e0 em1 em2 (K_X2_copy hG a3 _ _ _ e) (fun v7 h6 e => ?_)
  obtain ⟨h8, e1, e⟩ := e
  refine xw_pt1 (o := (some p0)) (show xm_Imp g Γ 13 (xi_put 0 0 (.object "StringTableau$State") 16) from xs_put hG hΓ (ci := 0) (kf := 0) rfl (Nat.le_of_ble_eq_true rfl) rfl (by decide +kernel) q343 dX1_runnable_13) rfl (xv_fit (Or.inl ⟨_, rfl⟩) v7) e1 ?_
  refine xw_psh (v := (.int (0))) (show xm_Imp g Γ 16 (xi_psh (.int (0)) 17) from xs_iconst hΓ dX1_runnable_16 (by decide)) ?_
  refine xw_ist (ls' := [some (.ref p0), some (va_rf v1), some (.int 0), none, none]) (show xm_Imp g Γ 17 (xi_ist 2 18) from xs_istore_n hΓ dX1_runnable_17 (Nat.le_of_ble_eq_true rfl)) ((xm_s1_o (o := v1) rfl).trans rfl) ?_
  exact hL_18 _ _ _ e
noncomputable def B_X3_reduceBy_153 (g : xm_G) (l0 : Nat) (l1 : Option Nat) (l3 : Int32) (l4 : Int32) (h : xm_H) : Option ((Int32 × Int32 × xm_H) ⊕ (Int32 × xm_H)) :=
 some (Sum.inl (l3, (l4 + 1), h))
noncomputable def B_X3_reduceBy_144 (g : xm_G) (l0 : Nat) (l1 : Option Nat) (l3 : Int32) (l4 : Int32) (l6 : Option Nat) (l7 : Int32) (h : xm_H) : Option ((Int32 × xm_H) ⊕ ((Int32 × Int32 × xm_H) ⊕ (Int32 × xm_H))) :=
 some (Sum.inl ((l7 + 1), h))
noncomputable def D_X3_reduceBy_98 (g : xm_G) (l0 : Nat) (l1 : Option Nat) (l3 : Int32) (l4 : Int32) (l6 : Option Nat) (s : Int32 × xm_H) : Option ((Int32 × xm_H) ⊕ ((Int32 × Int32 × xm_H) ⊕ (Int32 × xm_H))) :=
 xo_b (xh_fr [(2, 0)] s.2 l0) (fun v22 =>
 xo_b v22 (fun a23 =>
 xo_b (xh_len s.2 a23) (fun v24 =>
 (if v24 ≤ s.1 then
 xl_o (B_X3_reduceBy_153 g l0 l1 (l3 + 1) l4 s.2) else
 (if s.1 = l3 then
 B_X3_reduceBy_144 g l0 l1 l3 l4 l6 s.1 s.2 else
 xo_b (xh_fr [(2, 0)] s.2 l0) (fun v25 =>
 xo_b v25 (fun a26 =>
 xo_b (xh_ar "StringTableau$Row" s.2 a26 s.1) (fun v27 =>
 xo_b l1 (fun a28 =>
 xo_b (F_LAM_of g a28 v27 l4 s.2) (fun v29 =>
 (if v29 = 0 then
 B_X3_reduceBy_144 g l0 l1 l3 l4 l6 s.1 s.2 else
 xo_b (xh_fr [(2, 0)] s.2 l0) (fun v30 =>
 xo_b v30 (fun a31 =>
 xo_b (xh_ar "StringTableau$Row" s.2 a31 s.1) (fun v32 =>
 xo_b v32 (fun a33 =>
 xo_b (xh_is 3 s.2 a33) (fun _ =>
 xo_b (F_X4_multiply g a33 l6 s.2) (fun v34 =>
 B_X3_reduceBy_144 g l0 l1 l3 l4 l6 s.1 v34)))))))))))))))))
noncomputable def L_X3_reduceBy_98 (g : xm_G) (l0 : Nat) (l1 : Option Nat) (l3 : Int32) (l4 : Int32) (l6 : Option Nat) (s : Int32 × xm_H) : Option ((Int32 × Int32 × xm_H) ⊕ (Int32 × xm_H)) := xl_loop (D_X3_reduceBy_98 g l0 l1 l3 l4 l6) s
noncomputable def B_X3_reduceBy_52 (g : xm_G) (l0 : Nat) (l1 : Option Nat) (l3 : Int32) (l4 : Int32) (l5 : Int32) (h : xm_H) : Option ((Int32 × Int32 × xm_H) ⊕ (Int32 × xm_H)) :=
 xo_b (xh_fr [(2, 0)] h l0) (fun v7 =>
 xo_b v7 (fun a8 =>
 xo_b (xh_len h a8) (fun v9 =>
 (if l5 = v9 then
 B_X3_reduceBy_153 g l0 l1 l3 l4 h else
 xo_b (xh_fr [(2, 0)] h l0) (fun v10 =>
 xo_b v10 (fun a11 =>
 xo_b (xh_ar "StringTableau$Row" h a11 l5) (fun v12 =>
 xo_b (xh_fr [(2, 0)] h l0) (fun v13 =>
 xo_b (xh_fr [(2, 0)] h l0) (fun v14 =>
 xo_b v14 (fun a15 =>
 xo_b (xh_ar "StringTableau$Row" h a15 l3) (fun v16 =>
 xo_b v13 (fun a17 =>
 xo_b (xh_sr "StringTableau$Row" h a17 l5 v16) (fun h18 =>
 xo_b (xh_fr [(2, 0)] h18 l0) (fun v19 =>
 xo_b v19 (fun a20 =>
 xo_b (xh_sr "StringTableau$Row" h18 a20 l3 v12) (fun h21 =>
 L_X3_reduceBy_98 g l0 l1 l3 l4 v12 (0, h21)))))))))))))))))
noncomputable def D_X3_reduceBy_18 (g : xm_G) (l0 : Nat) (l1 : Option Nat) (l3 : Int32) (l4 : Int32) (h : xm_H) (s : Int32) : Option ((Int32) ⊕ ((Int32 × Int32 × xm_H) ⊕ (Int32 × xm_H))) :=
 xo_b (xh_fr [(2, 0)] h l0) (fun v4 =>
 xo_b v4 (fun a5 =>
 xo_b (xh_len h a5) (fun v6 =>
 (if v6 ≤ s then
 xl_o (B_X3_reduceBy_52 g l0 l1 l3 l4 s h) else
 xo_b (xh_fr [(2, 0)] h l0) (fun v35 =>
 xo_b v35 (fun a36 =>
 xo_b (xh_ar "StringTableau$Row" h a36 s) (fun v37 =>
 xo_b l1 (fun a38 =>
 xo_b (F_LAM_of g a38 v37 l4 h) (fun v39 =>
 (if v39 = 0 then
 some (Sum.inl (s + 1)) else
 xl_o (B_X3_reduceBy_52 g l0 l1 l3 l4 s h)))))))))))
noncomputable def L_X3_reduceBy_18 (g : xm_G) (l0 : Nat) (l1 : Option Nat) (l3 : Int32) (l4 : Int32) (h : xm_H) (s : Int32) : Option ((Int32 × Int32 × xm_H) ⊕ (Int32 × xm_H)) := xl_loop (D_X3_reduceBy_18 g l0 l1 l3 l4 h) s
noncomputable def D_X3_reduceBy_5 (g : xm_G) (l0 : Nat) (l1 : Option Nat) (s : Int32 × Int32 × xm_H) : Option ((Int32 × Int32 × xm_H) ⊕ (Int32 × xm_H)) :=
 xo_b (xh_fr [(2, 0)] s.2.2 l0) (fun v1 =>
 xo_b v1 (fun a2 =>
 xo_b (xh_len s.2.2 a2) (fun v3 =>
 (if v3 ≤ s.2.1 then
 xl_o (some (s.1, s.2.2)) else
 L_X3_reduceBy_18 g l0 l1 s.1 s.2.1 s.2.2 s.1))))
noncomputable def L_X3_reduceBy_5 (g : xm_G) (l0 : Nat) (l1 : Option Nat) (s : Int32 × Int32 × xm_H) : Option (Int32 × xm_H) := xl_loop (D_X3_reduceBy_5 g l0 l1) s
noncomputable def F_X3_reduceBy (g : xm_G) (p0 : Nat) (p1 : Option Nat) (p2 : Int32) (h : xm_H) : Option (Int32 × xm_H) :=
 L_X3_reduceBy_5 g p0 p1 (p2, 0, h)
set_option maxHeartbeats 4000000 in
theorem K_X3_reduceBy {g : xm_G} (hG : xm_Gw g) (p0 : Nat) (p1 : Option Nat) (p2 : Int32) (h : xm_H) {o : Int32 × xm_H} (e : F_X3_reduceBy g p0 p1 p2 h = some o) {Q : xm_P} {X : xm_X} (hQ : Q (some (.int o.1)) o.2) : xm_Run g M_X3_reduceBy 5 [.ref p0, va_rf p1, .int p2] h 0 0 Q X := by
  refine xm_Run.of2 (ls := [some (.ref p0), some (va_rf p1), some (.int p2), none, none, none, none, none]) pn_StringTableau_Tableau (by cases p1 <;> exact Nat.le_of_ble_eq_true rfl) (by cases p1 <;> rfl) (fun Γ hΓ => ?_)
  obtain ⟨P0, hP0, hp⟩ : ∃ P : Int32 × xm_H → Prop, (∀ o, P o → Q (some (.int o.1)) o.2) ∧ P o := ⟨fun o => Q (some (.int o.1)) o.2, fun _ h => h, hQ⟩
  clear hQ
  show xm_W g Γ 0 [some (.ref p0), some (va_rf p1), some (.int p2), none, none, none, none, none] [] h 0 0
  have hL_5 : ∀ (l0 : Nat) (l1 : Option Nat) (s : Int32 × Int32 × xm_H) (o : Int32 × xm_H), L_X3_reduceBy_5 g l0 l1 s = some o → P0 o → xm_W g Γ 5 [some (.ref l0), some (va_rf l1), none, some (.int s.1), some (.int s.2.1), none, none, none] [] s.2.2 0 0 := by
    intro l0 l1
    refine xl_rule (WS := fun s : Int32 × Int32 × xm_H => xm_W g Γ 5 [some (.ref l0), some (va_rf l1), none, some (.int s.1), some (.int s.2.1), none, none, none] [] s.2.2 0 0) ?_
    intro s o e hp
    obtain ⟨P1, hP1, hp⟩ : ∃ P : (Int32 × Int32 × xm_H) ⊕ (Int32 × xm_H) → Prop, (∀ o, P o → xl_P (fun s : Int32 × Int32 × xm_H => xm_W g Γ 5 [some (.ref l0), some (va_rf l1), none, some (.int s.1), some (.int s.2.1), none, none, none] [] s.2.2 0 0) P0 o) ∧ P o := ⟨_, fun _ h => h, hp⟩
    have hB_153 : ∀ (l3 : Int32) (l4 : Int32) (h : xm_H) (o : (Int32 × Int32 × xm_H) ⊕ (Int32 × xm_H)), B_X3_reduceBy_153 g l0 l1 l3 l4 h = some o → P1 o → xm_W g Γ 153 [some (.ref l0), some (va_rf l1), none, some (.int l3), some (.int l4), none, none, none] [] h 0 0 := by
      intro l3 l4 h o e hp
      unfold B_X3_reduceBy_153 at e
      refine xw_inc (v := (1)) (ls' := [some (.ref l0), some (va_rf l1), none, some (.int l3), some (.int (l4 + 1)), none, none, none]) (show xm_Imp g Γ 153 (xi_inc 4 (1) 156) from xs_iinc hΓ dX3_reduceBy_153 (by decide) (Nat.le_of_ble_eq_true rfl)) rfl rfl ?_
      refine xw_goto (show xm_Imp g Γ 156 (xi_goto 5) from xs_goto hΓ dX3_reduceBy_156 (by decide)) ?_
      have hq := xl_P_inl (hP1 _ (xl_fin e hp)); exact hq
    have hL_98 : ∀ (l3 : Int32) (l4 : Int32) (l6 : Option Nat) (s : Int32 × xm_H) (o : (Int32 × Int32 × xm_H) ⊕ (Int32 × xm_H)), L_X3_reduceBy_98 g l0 l1 l3 l4 l6 s = some o → P1 o → xm_W g Γ 98 [some (.ref l0), some (va_rf l1), none, some (.int l3), some (.int l4), none, some (va_rf l6), some (.int s.1)] [] s.2 0 0 := by
      intro l3 l4 l6
      refine xl_rule (WS := fun s : Int32 × xm_H => xm_W g Γ 98 [some (.ref l0), some (va_rf l1), none, some (.int l3), some (.int l4), none, some (va_rf l6), some (.int s.1)] [] s.2 0 0) ?_
      intro s o e hp
      obtain ⟨P2, hP2, hp⟩ : ∃ P : (Int32 × xm_H) ⊕ ((Int32 × Int32 × xm_H) ⊕ (Int32 × xm_H)) → Prop, (∀ o, P o → xl_P (fun s : Int32 × xm_H => xm_W g Γ 98 [some (.ref l0), some (va_rf l1), none, some (.int l3), some (.int l4), none, some (va_rf l6), some (.int s.1)] [] s.2 0 0) P1 o) ∧ P o := ⟨_, fun _ h => h, hp⟩
      have hB_144 : ∀ (l7 : Int32) (h : xm_H) (o : (Int32 × xm_H) ⊕ ((Int32 × Int32 × xm_H) ⊕ (Int32 × xm_H))), B_X3_reduceBy_144 g l0 l1 l3 l4 l6 l7 h = some o → P2 o → xm_W g Γ 144 [some (.ref l0), some (va_rf l1), none, some (.int l3), some (.int l4), none, some (va_rf l6), some (.int l7)] [] h 0 0 := by
        intro l7 h o e hp
        unfold B_X3_reduceBy_144 at e
        refine xw_inc (v := (1)) (ls' := [some (.ref l0), some (va_rf l1), none, some (.int l3), some (.int l4), none, some (va_rf l6), some (.int (l7 + 1))]) (show xm_Imp g Γ 144 (xi_inc 7 (1) 147) from xs_iinc hΓ dX3_reduceBy_144 (by decide) (Nat.le_of_ble_eq_true rfl)) rfl ((xm_s1_o (o := l6) rfl).trans rfl) ?_
        refine xw_goto (show xm_Imp g Γ 147 (xi_goto 98) from xs_goto hΓ dX3_reduceBy_147 (by decide)) ?_
        have hq := xl_P_inl (hP2 _ (xl_fin e hp)); exact hq
      unfold D_X3_reduceBy_98 at e
      refine xw_ild (show xm_Imp g Γ 98 (xi_ild 7 100) from xs_iload hΓ dX3_reduceBy_98) rfl ?_
      refine xw_ald (show xm_Imp g Γ 100 (xi_ald 0 101) from xs_aload_n hΓ dX3_reduceBy_100) rfl ?_
      obtain ⟨v22, e1, e⟩ := xo_b_s e
      refine xw_gr1 (o := (some l0)) (show xm_Imp g Γ 101 (xi_get 2 0 104) from xs_get hG hΓ (ci := 2) (kf := 0) rfl (Nat.le_of_ble_eq_true rfl) q268 dX3_reduceBy_101) rfl e1 ?_
      obtain ⟨a23, ha23, e⟩ := xo_b_s e
      obtain ⟨v24, e1, e⟩ := xo_b_s e
      refine xw_hlen (o := v22) (show xm_Imp g Γ 104 (xi_len 105) from xs_len hG hΓ dX3_reduceBy_104) ha23 e1 ?_
      refine xw_ic (show xm_Imp g Γ 105 (xi_ic (fun x y => y ≤ x) 150 108) from xs_icmp_ge hΓ dX3_reduceBy_105 (by decide)) (fun c => ?_) (fun c => ?_)
      · rw [if_pos c] at e
        obtain ⟨_, e, hp⟩ := xl_o_s e (hP2 _ hp)
        refine xw_inc (v := (1)) (ls' := [some (.ref l0), some (va_rf l1), none, some (.int (l3 + 1)), some (.int l4), none, some (va_rf l6), some (.int s.1)]) (show xm_Imp g Γ 150 (xi_inc 3 (1) 153) from xs_iinc hΓ dX3_reduceBy_150 (by decide) (Nat.le_of_ble_eq_true rfl)) rfl rfl ?_
        exact xm_lx (hB_153 _ _ _ _ e hp) (And.intro rfl (And.intro rfl (And.intro rfl (And.intro rfl (trivial)))))
      · rw [if_neg c] at e
        refine xw_ild (show xm_Imp g Γ 108 (xi_ild 7 110) from xs_iload hΓ dX3_reduceBy_108) rfl ?_
        refine xw_ild (show xm_Imp g Γ 110 (xi_ild 3 111) from xs_iload_n hΓ dX3_reduceBy_110) rfl ?_
        refine xw_ic (show xm_Imp g Γ 111 (xi_ic (fun x y => x = y) 144 114) from xs_icmp_eq hΓ dX3_reduceBy_111 (by decide)) (fun c => ?_) (fun c => ?_)
        · rw [if_pos c] at e
          exact hB_144 _ _ _ e hp
        · rw [if_neg c] at e
          refine xw_aldo (x := l1) (show xm_Imp g Γ 114 (xi_ald 1 115) from xs_aload_n hΓ dX3_reduceBy_114) rfl ?_
          refine xw_ald (show xm_Imp g Γ 115 (xi_ald 0 116) from xs_aload_n hΓ dX3_reduceBy_115) rfl ?_
          obtain ⟨v25, e1, e⟩ := xo_b_s e
          refine xw_gr1 (o := (some l0)) (show xm_Imp g Γ 116 (xi_get 2 0 119) from xs_get hG hΓ (ci := 2) (kf := 0) rfl (Nat.le_of_ble_eq_true rfl) q268 dX3_reduceBy_116) rfl e1 ?_
          refine xw_ild (show xm_Imp g Γ 119 (xi_ild 7 121) from xs_iload hΓ dX3_reduceBy_119) rfl ?_
          obtain ⟨a26, ha26, e⟩ := xo_b_s e
          obtain ⟨v27, e1, e⟩ := xo_b_s e
          refine xw_haal (o := v25) (show xm_Imp g Γ 121 (xi_aal "StringTableau$Row" 122) from xs_aal hG hΓ dX3_reduceBy_121) ha26 e1 ?_
          refine xw_ild (show xm_Imp g Γ 122 (xi_ild 4 124) from xs_iload hΓ dX3_reduceBy_122) rfl ?_
          obtain ⟨a28, ha28, e⟩ := xo_b_s e
          obtain ⟨v29, e1, e⟩ := xo_b_s e
          refine xw_lamv2 (o := l1) (show xm_Imp g Γ 124 (xi_lam g xL_ofs 2 129) from xs_lamof hG hΓ rfl q1615 dX3_reduceBy_124) (by simp [xm_stk, xv_cat, xc_int, xc_long, xc_float, xc_double, xc_ref]) ha28 (K_LAM_of hG _ _ _ _ e1) ?_
          refine xw_if (show xm_Imp g Γ 129 (xi_if (fun x => x = 0) 144 132) from xs_if_eq hΓ dX3_reduceBy_129 (by decide)) (fun c => ?_) (fun c => ?_)
          · rw [if_pos c] at e
            exact hB_144 _ _ _ e hp
          · rw [if_neg c] at e
            refine xw_ald (show xm_Imp g Γ 132 (xi_ald 0 133) from xs_aload_n hΓ dX3_reduceBy_132) rfl ?_
            obtain ⟨v30, e1, e⟩ := xo_b_s e
            refine xw_gr1 (o := (some l0)) (show xm_Imp g Γ 133 (xi_get 2 0 136) from xs_get hG hΓ (ci := 2) (kf := 0) rfl (Nat.le_of_ble_eq_true rfl) q268 dX3_reduceBy_133) rfl e1 ?_
            refine xw_ild (show xm_Imp g Γ 136 (xi_ild 7 138) from xs_iload hΓ dX3_reduceBy_136) rfl ?_
            obtain ⟨a31, ha31, e⟩ := xo_b_s e
            obtain ⟨v32, e1, e⟩ := xo_b_s e
            refine xw_haal (o := v30) (show xm_Imp g Γ 138 (xi_aal "StringTableau$Row" 139) from xs_aal hG hΓ dX3_reduceBy_138) ha31 e1 ?_
            refine xw_aldo (x := l6) (show xm_Imp g Γ 139 (xi_ald 6 141) from xs_aload hΓ dX3_reduceBy_139) rfl ?_
            obtain ⟨a33, ha33, e⟩ := xo_b_s e
            obtain ⟨_, e0, e⟩ := xo_b_s e
            obtain ⟨v34, e1, e⟩ := xo_b_s e
            refine xw_hu1 (o := v32) (show xm_Imp g Γ 141 (xi_vir g 3 M_X4_multiply 4 1 144) from xs_invV hG hΓ k_X4_multiply rfl (ci := 3) rfl q1230 q1231 q1232 dX3_reduceBy_141) (by simp [xm_stk, xv_cat, xc_int, xc_long, xc_float, xc_double, xc_ref]) ha33 e0 (fun Q X hQ => K_X4_multiply hG a33 l6 _ e1 hQ) ?_
            exact hB_144 _ _ _ e hp
    have hB_52 : ∀ (l3 : Int32) (l4 : Int32) (l5 : Int32) (h : xm_H) (o : (Int32 × Int32 × xm_H) ⊕ (Int32 × xm_H)), B_X3_reduceBy_52 g l0 l1 l3 l4 l5 h = some o → P1 o → xm_W g Γ 52 [some (.ref l0), some (va_rf l1), none, some (.int l3), some (.int l4), some (.int l5), none, none] [] h 0 0 := by
      intro l3 l4 l5 h o e hp
      unfold B_X3_reduceBy_52 at e
      refine xw_ild (show xm_Imp g Γ 52 (xi_ild 5 54) from xs_iload hΓ dX3_reduceBy_52) rfl ?_
      refine xw_ald (show xm_Imp g Γ 54 (xi_ald 0 55) from xs_aload_n hΓ dX3_reduceBy_54) rfl ?_
      obtain ⟨v7, e1, e⟩ := xo_b_s e
      refine xw_gr1 (o := (some l0)) (show xm_Imp g Γ 55 (xi_get 2 0 58) from xs_get hG hΓ (ci := 2) (kf := 0) rfl (Nat.le_of_ble_eq_true rfl) q268 dX3_reduceBy_55) rfl e1 ?_
      obtain ⟨a8, ha8, e⟩ := xo_b_s e
      obtain ⟨v9, e1, e⟩ := xo_b_s e
      refine xw_hlen (o := v7) (show xm_Imp g Γ 58 (xi_len 59) from xs_len hG hΓ dX3_reduceBy_58) ha8 e1 ?_
      refine xw_ic (show xm_Imp g Γ 59 (xi_ic (fun x y => x = y) 62 65) from xs_icmp_ne hΓ dX3_reduceBy_59 (by decide)) (fun c => ?_) (fun c => ?_)
      · rw [if_pos c] at e
        refine xw_goto (show xm_Imp g Γ 62 (xi_goto 153) from xs_goto hΓ dX3_reduceBy_62 (by decide)) ?_
        exact xm_lx (hB_153 _ _ _ _ e hp) (And.intro rfl (And.intro rfl (And.intro rfl (And.intro rfl (trivial)))))
      · rw [if_neg c] at e
        refine xw_ald (show xm_Imp g Γ 65 (xi_ald 0 66) from xs_aload_n hΓ dX3_reduceBy_65) rfl ?_
        obtain ⟨v10, e1, e⟩ := xo_b_s e
        refine xw_gr1 (o := (some l0)) (show xm_Imp g Γ 66 (xi_get 2 0 69) from xs_get hG hΓ (ci := 2) (kf := 0) rfl (Nat.le_of_ble_eq_true rfl) q268 dX3_reduceBy_66) rfl e1 ?_
        refine xw_ild (show xm_Imp g Γ 69 (xi_ild 5 71) from xs_iload hΓ dX3_reduceBy_69) rfl ?_
        obtain ⟨a11, ha11, e⟩ := xo_b_s e
        obtain ⟨v12, e1, e⟩ := xo_b_s e
        refine xw_haal (o := v10) (show xm_Imp g Γ 71 (xi_aal "StringTableau$Row" 72) from xs_aal hG hΓ dX3_reduceBy_71) ha11 e1 ?_
        refine xw_asto (x := v12) (ls' := [some (.ref l0), some (va_rf l1), none, some (.int l3), some (.int l4), some (.int l5), some (va_rf v12), none]) (show xm_Imp g Γ 72 (xi_ast 6 74) from xs_astore hΓ dX3_reduceBy_72 (Nat.le_of_ble_eq_true rfl)) rfl ?_
        refine xw_ald (show xm_Imp g Γ 74 (xi_ald 0 75) from xs_aload_n hΓ dX3_reduceBy_74) rfl ?_
        obtain ⟨v13, e1, e⟩ := xo_b_s e
        refine xw_gr1 (o := (some l0)) (show xm_Imp g Γ 75 (xi_get 2 0 78) from xs_get hG hΓ (ci := 2) (kf := 0) rfl (Nat.le_of_ble_eq_true rfl) q268 dX3_reduceBy_75) rfl e1 ?_
        refine xw_ild (show xm_Imp g Γ 78 (xi_ild 5 80) from xs_iload hΓ dX3_reduceBy_78) rfl ?_
        refine xw_ald (show xm_Imp g Γ 80 (xi_ald 0 81) from xs_aload_n hΓ dX3_reduceBy_80) rfl ?_
        obtain ⟨v14, e1, e⟩ := xo_b_s e
        refine xw_gr1 (o := (some l0)) (show xm_Imp g Γ 81 (xi_get 2 0 84) from xs_get hG hΓ (ci := 2) (kf := 0) rfl (Nat.le_of_ble_eq_true rfl) q268 dX3_reduceBy_81) rfl e1 ?_
        refine xw_ild (show xm_Imp g Γ 84 (xi_ild 3 85) from xs_iload_n hΓ dX3_reduceBy_84) rfl ?_
        obtain ⟨a15, ha15, e⟩ := xo_b_s e
        obtain ⟨v16, e1, e⟩ := xo_b_s e
        refine xw_haal (o := v14) (show xm_Imp g Γ 85 (xi_aal "StringTableau$Row" 86) from xs_aal hG hΓ dX3_reduceBy_85) ha15 e1 ?_
        obtain ⟨a17, ha17, e⟩ := xo_b_s e
        obtain ⟨h18, e1, e⟩ := xo_b_s e
        refine xw_haas (o := v13) (v := v16) (show xm_Imp g Γ 86 (xi_aas "StringTableau$Row" 87) from xs_aas hG hΓ dX3_reduceBy_86) ha17 e1 ?_
        refine xw_ald (show xm_Imp g Γ 87 (xi_ald 0 88) from xs_aload_n hΓ dX3_reduceBy_87) rfl ?_
        obtain ⟨v19, e1, e⟩ := xo_b_s e
        refine xw_gr1 (o := (some l0)) (show xm_Imp g Γ 88 (xi_get 2 0 91) from xs_get hG hΓ (ci := 2) (kf := 0) rfl (Nat.le_of_ble_eq_true rfl) q268 dX3_reduceBy_88) rfl e1 ?_
        refine xw_ild (show xm_Imp g Γ 91 (xi_ild 3 92) from xs_iload_n hΓ dX3_reduceBy_91) rfl ?_
        refine xw_aldo (x := v12) (show xm_Imp g Γ 92 (xi_ald 6 94) from xs_aload hΓ dX3_reduceBy_92) rfl ?_
        obtain ⟨a20, ha20, e⟩ := xo_b_s e
        obtain ⟨h21, e1, e⟩ := xo_b_s e
        refine xw_haas (o := v19) (v := v12) (show xm_Imp g Γ 94 (xi_aas "StringTableau$Row" 95) from xs_aas hG hΓ dX3_reduceBy_94) ha20 e1 ?_
        refine xw_psh (v := (.int (0))) (show xm_Imp g Γ 95 (xi_psh (.int (0)) 96) from xs_iconst hΓ dX3_reduceBy_95 (by decide)) ?_
        refine xw_ist (ls' := [some (.ref l0), some (va_rf l1), none, some (.int l3), some (.int l4), some (.int l5), some (va_rf v12), some (.int 0)]) (show xm_Imp g Γ 96 (xi_ist 7 98) from xs_istore hΓ dX3_reduceBy_96 (Nat.le_of_ble_eq_true rfl)) ((xm_s1_o (o := v12) rfl).trans rfl) ?_
        exact xm_lx (hL_98 _ _ _ _ _ e hp) (And.intro rfl (And.intro rfl (And.intro rfl (And.intro rfl (And.intro rfl (And.intro rfl (trivial)))))))
    have hL_18 : ∀ (l3 : Int32) (l4 : Int32) (h : xm_H) (s : Int32) (o : (Int32 × Int32 × xm_H) ⊕ (Int32 × xm_H)), L_X3_reduceBy_18 g l0 l1 l3 l4 h s = some o → P1 o → xm_W g Γ 18 [some (.ref l0), some (va_rf l1), none, some (.int l3), some (.int l4), some (.int s), none, none] [] h 0 0 := by
      intro l3 l4 h
      refine xl_rule (WS := fun s : Int32 => xm_W g Γ 18 [some (.ref l0), some (va_rf l1), none, some (.int l3), some (.int l4), some (.int s), none, none] [] h 0 0) ?_
      intro s o e hp
      obtain ⟨P2, hP2, hp⟩ : ∃ P : (Int32) ⊕ ((Int32 × Int32 × xm_H) ⊕ (Int32 × xm_H)) → Prop, (∀ o, P o → xl_P (fun s : Int32 => xm_W g Γ 18 [some (.ref l0), some (va_rf l1), none, some (.int l3), some (.int l4), some (.int s), none, none] [] h 0 0) P1 o) ∧ P o := ⟨_, fun _ h => h, hp⟩
      unfold D_X3_reduceBy_18 at e
      refine xw_ild (show xm_Imp g Γ 18 (xi_ild 5 20) from xs_iload hΓ dX3_reduceBy_18) rfl ?_
      refine xw_ald (show xm_Imp g Γ 20 (xi_ald 0 21) from xs_aload_n hΓ dX3_reduceBy_20) rfl ?_
      obtain ⟨v4, e1, e⟩ := xo_b_s e
      refine xw_gr1 (o := (some l0)) (show xm_Imp g Γ 21 (xi_get 2 0 24) from xs_get hG hΓ (ci := 2) (kf := 0) rfl (Nat.le_of_ble_eq_true rfl) q268 dX3_reduceBy_21) rfl e1 ?_
      obtain ⟨a5, ha5, e⟩ := xo_b_s e
      obtain ⟨v6, e1, e⟩ := xo_b_s e
      refine xw_hlen (o := v4) (show xm_Imp g Γ 24 (xi_len 25) from xs_len hG hΓ dX3_reduceBy_24) ha5 e1 ?_
      refine xw_ic (show xm_Imp g Γ 25 (xi_ic (fun x y => y ≤ x) 52 28) from xs_icmp_ge hΓ dX3_reduceBy_25 (by decide)) (fun c => ?_) (fun c => ?_)
      · rw [if_pos c] at e
        obtain ⟨_, e, hp⟩ := xl_o_s e (hP2 _ hp)
        exact hB_52 _ _ _ _ _ e hp
      · rw [if_neg c] at e
        refine xw_aldo (x := l1) (show xm_Imp g Γ 28 (xi_ald 1 29) from xs_aload_n hΓ dX3_reduceBy_28) rfl ?_
        refine xw_ald (show xm_Imp g Γ 29 (xi_ald 0 30) from xs_aload_n hΓ dX3_reduceBy_29) rfl ?_
        obtain ⟨v35, e1, e⟩ := xo_b_s e
        refine xw_gr1 (o := (some l0)) (show xm_Imp g Γ 30 (xi_get 2 0 33) from xs_get hG hΓ (ci := 2) (kf := 0) rfl (Nat.le_of_ble_eq_true rfl) q268 dX3_reduceBy_30) rfl e1 ?_
        refine xw_ild (show xm_Imp g Γ 33 (xi_ild 5 35) from xs_iload hΓ dX3_reduceBy_33) rfl ?_
        obtain ⟨a36, ha36, e⟩ := xo_b_s e
        obtain ⟨v37, e1, e⟩ := xo_b_s e
        refine xw_haal (o := v35) (show xm_Imp g Γ 35 (xi_aal "StringTableau$Row" 36) from xs_aal hG hΓ dX3_reduceBy_35) ha36 e1 ?_
        refine xw_ild (show xm_Imp g Γ 36 (xi_ild 4 38) from xs_iload hΓ dX3_reduceBy_36) rfl ?_
        obtain ⟨a38, ha38, e⟩ := xo_b_s e
        obtain ⟨v39, e1, e⟩ := xo_b_s e
        refine xw_lamv2 (o := l1) (show xm_Imp g Γ 38 (xi_lam g xL_ofs 2 43) from xs_lamof hG hΓ rfl q1615 dX3_reduceBy_38) (by simp [xm_stk, xv_cat, xc_int, xc_long, xc_float, xc_double, xc_ref]) ha38 (K_LAM_of hG _ _ _ _ e1) ?_
        refine xw_if (show xm_Imp g Γ 43 (xi_if (fun x => x = 0) 46 52) from xs_if_ne hΓ dX3_reduceBy_43 (by decide)) (fun c => ?_) (fun c => ?_)
        · rw [if_pos c] at e
          refine xw_inc (v := (1)) (ls' := [some (.ref l0), some (va_rf l1), none, some (.int l3), some (.int l4), some (.int (s + 1)), none, none]) (show xm_Imp g Γ 46 (xi_inc 5 (1) 49) from xs_iinc hΓ dX3_reduceBy_46 (by decide) (Nat.le_of_ble_eq_true rfl)) rfl rfl ?_
          refine xw_goto (show xm_Imp g Γ 49 (xi_goto 18) from xs_goto hΓ dX3_reduceBy_49 (by decide)) ?_
          have hq := xl_P_inl (hP2 _ (xl_fin e hp)); exact hq
        · rw [if_neg c] at e
          obtain ⟨_, e, hp⟩ := xl_o_s e (hP2 _ hp)
          exact hB_52 _ _ _ _ _ e hp
    unfold D_X3_reduceBy_5 at e
    refine xw_ild (show xm_Imp g Γ 5 (xi_ild 4 7) from xs_iload hΓ dX3_reduceBy_5) rfl ?_
    refine xw_ald (show xm_Imp g Γ 7 (xi_ald 0 8) from xs_aload_n hΓ dX3_reduceBy_7) rfl ?_
    obtain ⟨v1, e1, e⟩ := xo_b_s e
    refine xw_gr1 (o := (some l0)) (show xm_Imp g Γ 8 (xi_get 2 0 11) from xs_get hG hΓ (ci := 2) (kf := 0) rfl (Nat.le_of_ble_eq_true rfl) q268 dX3_reduceBy_8) rfl e1 ?_
    obtain ⟨a2, ha2, e⟩ := xo_b_s e
    obtain ⟨v3, e1, e⟩ := xo_b_s e
    refine xw_hlen (o := v1) (show xm_Imp g Γ 11 (xi_len 12) from xs_len hG hΓ dX3_reduceBy_11) ha2 e1 ?_
    refine xw_ic (show xm_Imp g Γ 12 (xi_ic (fun x y => y ≤ x) 159 15) from xs_icmp_ge hΓ dX3_reduceBy_12 (by decide)) (fun c => ?_) (fun c => ?_)
    · rw [if_pos c] at e
      obtain ⟨_, e, hp⟩ := xl_o_s e (hP1 _ hp)
      refine xw_ild (show xm_Imp g Γ 159 (xi_ild 3 160) from xs_iload_n hΓ dX3_reduceBy_159) rfl ?_
      have hq := hP0 _ (xl_fin e hp)
      exact xw_iret (show xm_Imp g Γ 160 (xi_iret .int _) from xs_ireturn hΓ rfl dX3_reduceBy_160) (xn_int _) hq
    · rw [if_neg c] at e
      refine xw_ild (show xm_Imp g Γ 15 (xi_ild 3 16) from xs_iload_n hΓ dX3_reduceBy_15) rfl ?_
      refine xw_ist (ls' := [some (.ref l0), some (va_rf l1), none, some (.int s.1), some (.int s.2.1), some (.int s.1), none, none]) (show xm_Imp g Γ 16 (xi_ist 5 18) from xs_istore hΓ dX3_reduceBy_16 (Nat.le_of_ble_eq_true rfl)) rfl ?_
      exact hL_18 _ _ _ _ _ e hp
  unfold F_X3_reduceBy at e
  refine xw_ild (show xm_Imp g Γ 0 (xi_ild 2 1) from xs_iload_n hΓ dX3_reduceBy_0) rfl ?_
  refine xw_ist (ls' := [some (.ref p0), some (va_rf p1), some (.int p2), some (.int p2), none, none, none, none]) (show xm_Imp g Γ 1 (xi_ist 3 2) from xs_istore_n hΓ dX3_reduceBy_1 (Nat.le_of_ble_eq_true rfl)) rfl ?_
  refine xw_psh (v := (.int (0))) (show xm_Imp g Γ 2 (xi_psh (.int (0)) 3) from xs_iconst hΓ dX3_reduceBy_2 (by decide)) ?_
  refine xw_ist (ls' := [some (.ref p0), some (va_rf p1), some (.int p2), some (.int p2), some (.int 0), none, none, none]) (show xm_Imp g Γ 3 (xi_ist 4 5) from xs_istore hΓ dX3_reduceBy_3 (Nat.le_of_ble_eq_true rfl)) rfl ?_
  exact xm_lx (hL_5 _ _ _ _ e hp) (And.intro rfl (And.intro rfl (And.intro rfl (And.intro rfl (trivial)))))
noncomputable def F_X3_canonical (g : xm_G) (p0 : Nat) (h : xm_H) (bc : Nat) (bs : Nat) (Q : Option Nat → xm_H → Prop) : Prop :=
 xt_b (xh_is 2 h p0) (fun _ =>
 xt_c bc bs (fun m1 m2 => F_X3_copy g p0 h m1 m2 (fun v4 h3 =>
 xt_b v4 (fun a5 =>
 xt_b (xh_is 2 h3 a5) (fun _ =>
 xt_b (F_X3_reduceBy g a5 (some (xm_la g 9)) 0 h3) (fun v6 =>
 xt_b (xh_is 2 v6.2 a5) (fun _ =>
 xt_b (F_X3_reduceBy g a5 (some (xm_la g 10)) v6.1 v6.2) (fun v7 =>
 xt_b (xh_fr [(2, 0)] v7.2 p0) (fun v8 =>
 xt_b v8 (fun a9 =>
 xt_b (xh_len v7.2 a9) (fun v10 =>
 (if v7.1 = v10 then
 Q v4 v7.2 else
 Q none v7.2))))))))))))
set_option maxHeartbeats 4000000 in
theorem K_X3_canonical {g : xm_G} (hG : xm_Gw g) (p0 : Nat) (h : xm_H) (bc : Nat) (bs : Nat) {Q : Option Nat → xm_H → Prop} (e : F_X3_canonical g p0 h bc bs Q) : xm_Run g M_X3_canonical 6 [.ref p0] h bc bs (fun v h' => ∃ r, v = some (va_rf r) ∧ Q r h') xm_no := by
  refine xm_Run.ofN (ls := [some (.ref p0), none, none, none]) rfl pn_StringTableau_Tableau (Nat.le_of_ble_eq_true rfl) rfl (fun Γ hΓ hN => ?_)
  show xm_W g Γ 0 [some (.ref p0), none, none, none] [] h bc bs
  unfold F_X3_canonical at e
  refine xw_ald (show xm_Imp g Γ 0 (xi_ald 0 1) from xs_aload_n hΓ dX3_canonical_0) rfl ?_
  obtain ⟨_, e0, e⟩ := e
  obtain ⟨m1, m2, ⟨em1, em2⟩, e⟩ := e
  refine xw_tvr0 (o := (some p0)) (show xm_Imp g Γ 1 (xi_vir g 2 M_X3_copy 4 0 4) from xs_invV hG hΓ k_X3_copy rfl (ci := 2) rfl q1606 q1300 q1301 dX3_canonical_1) rfl rfl e0 em1 em2 (K_X3_copy hG p0 _ _ _ e) (fun v4 h3 e => ?_)
  refine xw_asto (x := v4) (ls' := [some (.ref p0), some (va_rf v4), none, none]) (show xm_Imp g Γ 4 (xi_ast 1 5) from xs_astore_n hΓ dX3_canonical_4 (Nat.le_of_ble_eq_true rfl)) rfl ?_
  refine xw_aldo (x := v4) (show xm_Imp g Γ 5 (xi_ald 1 6) from xs_aload_n hΓ dX3_canonical_5) rfl ?_
  refine xw_la (show xm_Imp g Γ 6 (xi_la (.ref (xm_la g 9)) 11) from xs_indy hG hΓ hN (9 : Fin 11) rfl rfl dX3_canonical_6) (by simp [xm_stk, xv_cat, xc_int, xc_long, xc_float, xc_double, xc_ref]) ?_
  refine xw_psh (v := (.int (0))) (show xm_Imp g Γ 11 (xi_psh (.int (0)) 12) from xs_iconst hΓ dX3_canonical_11 (by decide)) ?_
  obtain ⟨a5, ha5, e⟩ := e
  obtain ⟨_, e0, e⟩ := e
  obtain ⟨v6, e1, e⟩ := e
  refine xw_hv2 (o := v4) (show xm_Imp g Γ 12 (xi_vir g 2 M_X3_reduceBy 5 2 15) from xs_invV hG hΓ k_X3_reduceBy rfl (ci := 2) rfl q1610 q1612 qs34 dX3_canonical_12) (by simp [xm_stk, xv_cat, xc_int, xc_long, xc_float, xc_double, xc_ref]) ha5 e0 (fun Q X hQ => K_X3_reduceBy hG a5 (some (xm_la g 9)) 0 _ e1 hQ) ?_
  refine xw_ist (ls' := [some (.ref p0), some (va_rf v4), some (.int v6.1), none]) (show xm_Imp g Γ 15 (xi_ist 2 16) from xs_istore_n hΓ dX3_canonical_15 (Nat.le_of_ble_eq_true rfl)) ((xm_s1_o (o := v4) rfl).trans rfl) ?_
  refine xw_aldo (x := v4) (show xm_Imp g Γ 16 (xi_ald 1 17) from xs_aload_n hΓ dX3_canonical_16) rfl ?_
  refine xw_la (show xm_Imp g Γ 17 (xi_la (.ref (xm_la g 10)) 22) from xs_indy hG hΓ hN (10 : Fin 11) rfl rfl dX3_canonical_17) (by simp [xm_stk, xv_cat, xc_int, xc_long, xc_float, xc_double, xc_ref]) ?_
  refine xw_ild (show xm_Imp g Γ 22 (xi_ild 2 23) from xs_iload_n hΓ dX3_canonical_22) rfl ?_
  obtain ⟨_, e0, e⟩ := e
  obtain ⟨v7, e1, e⟩ := e
  refine xw_hv2 (o := v4) (show xm_Imp g Γ 23 (xi_vir g 2 M_X3_reduceBy 5 2 26) from xs_invV hG hΓ k_X3_reduceBy rfl (ci := 2) rfl q1610 q1612 qs34 dX3_canonical_23) (by simp [xm_stk, xv_cat, xc_int, xc_long, xc_float, xc_double, xc_ref]) ha5 e0 (fun Q X hQ => K_X3_reduceBy hG a5 (some (xm_la g 10)) v6.1 _ e1 hQ) ?_
  refine xw_ist (ls' := [some (.ref p0), some (va_rf v4), some (.int v6.1), some (.int v7.1)]) (show xm_Imp g Γ 26 (xi_ist 3 27) from xs_istore_n hΓ dX3_canonical_26 (Nat.le_of_ble_eq_true rfl)) rfl ?_
  refine xw_ild (show xm_Imp g Γ 27 (xi_ild 3 28) from xs_iload_n hΓ dX3_canonical_27) rfl ?_
  refine xw_ald (show xm_Imp g Γ 28 (xi_ald 0 29) from xs_aload_n hΓ dX3_canonical_28) rfl ?_
  obtain ⟨v8, e1, e⟩ := e
  refine xw_gr1 (o := (some p0)) (show xm_Imp g Γ 29 (xi_get 2 0 32) from xs_get hG hΓ (ci := 2) (kf := 0) rfl (Nat.le_of_ble_eq_true rfl) q268 dX3_canonical_29) rfl e1 ?_
  obtain ⟨a9, ha9, e⟩ := e
  obtain ⟨v10, e1, e⟩ := e
  refine xw_hlen (o := v8) (show xm_Imp g Γ 32 (xi_len 33) from xs_len hG hΓ dX3_canonical_32) ha9 e1 ?_
  refine xw_ic (show xm_Imp g Γ 33 (xi_ic (fun x y => x = y) 36 40) from xs_icmp_ne hΓ dX3_canonical_33 (by decide)) (fun c => ?_) (fun c => ?_)
  · rw [if_pos c] at e
    refine xw_aldo (x := v4) (show xm_Imp g Γ 36 (xi_ald 1 37) from xs_aload_n hΓ dX3_canonical_36) rfl ?_
    refine xw_goto (show xm_Imp g Γ 37 (xi_goto 41) from xs_goto hΓ dX3_canonical_37 (by decide)) ?_
    exact xw_areto (show xm_Imp g Γ 41 (xi_aret _) from xs_areturn hΓ rfl (Or.inl ⟨_, rfl⟩) dX3_canonical_41) ⟨_, rfl, e⟩
  · rw [if_neg c] at e
    refine xw_psh (v := .null) (show xm_Imp g Γ 40 (xi_psh .null 41) from xs_null hΓ dX3_canonical_40) ?_
    exact xw_areto (show xm_Imp g Γ 41 (xi_aret _) from xs_areturn hΓ rfl (Or.inl ⟨_, rfl⟩) dX3_canonical_41) ⟨_, rfl, e⟩
noncomputable def B_X4_isLike_37 (g : xm_G) (h : xm_H) : Option (Int32) :=
 some 0
noncomputable def F_X4_isLike (g : xm_G) (p0 : Nat) (p1 : Option Nat) (h : xm_H) : Option (Int32) :=
 xo_b (xh_fi [(3, 0)] h p0) (fun v1 =>
 xo_b p1 (fun a2 =>
 xo_b (xh_fi [(3, 0)] h a2) (fun v3 =>
 (if v1 = v3 then
 xo_b (xh_fi [(3, 1)] h p0) (fun v4 =>
 xo_b (xh_fi [(3, 1)] h a2) (fun v5 =>
 (if v4 = v5 then
 xo_b (xh_fi [(3, 2)] h p0) (fun v6 =>
 xo_b (xh_fi [(3, 2)] h a2) (fun v7 =>
 (if v6 = v7 then
 some 1 else
 B_X4_isLike_37 g h))) else
 B_X4_isLike_37 g h))) else
 B_X4_isLike_37 g h))))
set_option maxHeartbeats 4000000 in
theorem K_X4_isLike {g : xm_G} (hG : xm_Gw g) (p0 : Nat) (p1 : Option Nat) (h : xm_H) {o : Int32} (e : F_X4_isLike g p0 p1 h = some o) {Q : xm_P} {X : xm_X} (hQ : Q (some (.int o)) h) : xm_Run g M_X4_isLike 1 [.ref p0, va_rf p1] h 0 0 Q X := by
  refine xm_Run.of2 (ls := [some (.ref p0), some (va_rf p1)]) pn_StringTableau_Row (by cases p1 <;> exact Nat.le_of_ble_eq_true rfl) (by cases p1 <;> rfl) (fun Γ hΓ => ?_)
  obtain ⟨P0, hP0, hp⟩ : ∃ P : Int32 → Prop, (∀ o, P o → Q (some (.int o)) h) ∧ P o := ⟨fun o => Q (some (.int o)) h, fun _ h => h, hQ⟩
  clear hQ
  show xm_W g Γ 0 [some (.ref p0), some (va_rf p1)] [] h 0 0
  have hB_37 : ∀  (o : Int32), B_X4_isLike_37 g h = some o → P0 o → xm_W g Γ 37 [none, none] [] h 0 0 := by
    intro  o e hp
    unfold B_X4_isLike_37 at e
    refine xw_psh (v := (.int (0))) (show xm_Imp g Γ 37 (xi_psh (.int (0)) 38) from xs_iconst hΓ dX4_isLike_37 (by decide)) ?_
    have hq := hP0 _ (xl_fin e hp)
    exact xw_iret (show xm_Imp g Γ 38 (xi_iret .boolean _) from xs_ireturn hΓ rfl dX4_isLike_38) rfl hq
  unfold F_X4_isLike at e
  refine xw_ald (show xm_Imp g Γ 0 (xi_ald 0 1) from xs_aload_n hΓ dX4_isLike_0) rfl ?_
  obtain ⟨v1, e1, e⟩ := xo_b_s e
  refine xw_gi1 (o := (some p0)) (show xm_Imp g Γ 1 (xi_get 3 0 4) from xs_get hG hΓ (ci := 3) (kf := 0) rfl (Nat.le_of_ble_eq_true rfl) q246 dX4_isLike_1) rfl e1 ?_
  refine xw_aldo (x := p1) (show xm_Imp g Γ 4 (xi_ald 1 5) from xs_aload_n hΓ dX4_isLike_4) rfl ?_
  obtain ⟨a2, ha2, e⟩ := xo_b_s e
  obtain ⟨v3, e1, e⟩ := xo_b_s e
  refine xw_gi1 (o := p1) (show xm_Imp g Γ 5 (xi_get 3 0 8) from xs_get hG hΓ (ci := 3) (kf := 0) rfl (Nat.le_of_ble_eq_true rfl) q246 dX4_isLike_5) ha2 e1 ?_
  refine xw_ic (show xm_Imp g Γ 8 (xi_ic (fun x y => x = y) 11 37) from xs_icmp_ne hΓ dX4_isLike_8 (by decide)) (fun c => ?_) (fun c => ?_)
  · rw [if_pos c] at e
    refine xw_ald (show xm_Imp g Γ 11 (xi_ald 0 12) from xs_aload_n hΓ dX4_isLike_11) rfl ?_
    obtain ⟨v4, e1, e⟩ := xo_b_s e
    refine xw_gi1 (o := (some p0)) (show xm_Imp g Γ 12 (xi_get 3 1 15) from xs_get hG hΓ (ci := 3) (kf := 1) rfl (Nat.le_of_ble_eq_true rfl) q251 dX4_isLike_12) rfl e1 ?_
    refine xw_aldo (x := p1) (show xm_Imp g Γ 15 (xi_ald 1 16) from xs_aload_n hΓ dX4_isLike_15) rfl ?_
    obtain ⟨v5, e1, e⟩ := xo_b_s e
    refine xw_gi1 (o := p1) (show xm_Imp g Γ 16 (xi_get 3 1 19) from xs_get hG hΓ (ci := 3) (kf := 1) rfl (Nat.le_of_ble_eq_true rfl) q251 dX4_isLike_16) ha2 e1 ?_
    refine xw_ic (show xm_Imp g Γ 19 (xi_ic (fun x y => x = y) 22 37) from xs_icmp_ne hΓ dX4_isLike_19 (by decide)) (fun c => ?_) (fun c => ?_)
    · rw [if_pos c] at e
      refine xw_ald (show xm_Imp g Γ 22 (xi_ald 0 23) from xs_aload_n hΓ dX4_isLike_22) rfl ?_
      obtain ⟨v6, e1, e⟩ := xo_b_s e
      refine xw_gi1 (o := (some p0)) (show xm_Imp g Γ 23 (xi_get 3 2 26) from xs_get hG hΓ (ci := 3) (kf := 2) rfl (Nat.le_of_ble_eq_true rfl) q256 dX4_isLike_23) rfl e1 ?_
      refine xw_aldo (x := p1) (show xm_Imp g Γ 26 (xi_ald 1 27) from xs_aload_n hΓ dX4_isLike_26) rfl ?_
      obtain ⟨v7, e1, e⟩ := xo_b_s e
      refine xw_gi1 (o := p1) (show xm_Imp g Γ 27 (xi_get 3 2 30) from xs_get hG hΓ (ci := 3) (kf := 2) rfl (Nat.le_of_ble_eq_true rfl) q256 dX4_isLike_27) ha2 e1 ?_
      refine xw_ic (show xm_Imp g Γ 30 (xi_ic (fun x y => x = y) 33 37) from xs_icmp_ne hΓ dX4_isLike_30 (by decide)) (fun c => ?_) (fun c => ?_)
      · rw [if_pos c] at e
        refine xw_psh (v := (.int (1))) (show xm_Imp g Γ 33 (xi_psh (.int (1)) 34) from xs_iconst hΓ dX4_isLike_33 (by decide)) ?_
        refine xw_goto (show xm_Imp g Γ 34 (xi_goto 38) from xs_goto hΓ dX4_isLike_34 (by decide)) ?_
        have hq := hP0 _ (xl_fin e hp)
        exact xw_iret (show xm_Imp g Γ 38 (xi_iret .boolean _) from xs_ireturn hΓ rfl dX4_isLike_38) rfl hq
      · rw [if_neg c] at e
        exact xm_lx (hB_37 _ e hp) (trivial)
    · rw [if_neg c] at e
      exact xm_lx (hB_37 _ e hp) (trivial)
  · rw [if_neg c] at e
    exact xm_lx (hB_37 _ e hp) (trivial)
noncomputable def B_X3_difference_34 (g : xm_G) (l0 : Nat) (l1 : Option Nat) (l2 : Int32) (l3 : Int32) (h : xm_H) : Option ((Int32 × Int32) ⊕ (Int32)) :=
 some (Sum.inl (l2, (l3 + 1)))
noncomputable def D_X3_difference_4 (g : xm_G) (l0 : Nat) (l1 : Option Nat) (h : xm_H) (s : Int32 × Int32) : Option ((Int32 × Int32) ⊕ (Int32)) :=
 xo_b (xh_fr [(2, 0)] h l0) (fun v1 =>
 xo_b v1 (fun a2 =>
 xo_b (xh_len h a2) (fun v3 =>
 (if v3 ≤ s.2 then
 xl_o (some s.1) else
 xo_b (xh_fr [(2, 0)] h l0) (fun v4 =>
 xo_b v4 (fun a5 =>
 xo_b (xh_ar "StringTableau$Row" h a5 s.2) (fun v6 =>
 xo_b l1 (fun a7 =>
 xo_b (xh_fr [(2, 0)] h a7) (fun v8 =>
 xo_b v8 (fun a9 =>
 xo_b (xh_ar "StringTableau$Row" h a9 s.2) (fun v10 =>
 xo_b v6 (fun a11 =>
 xo_b (xh_is 3 h a11) (fun _ =>
 xo_b (F_X4_isLike g a11 v10 h) (fun v12 =>
 B_X3_difference_34 g l0 l1 (if v12 = 0 then s.1 + 1 else s.1) s.2 h))))))))))))))
noncomputable def L_X3_difference_4 (g : xm_G) (l0 : Nat) (l1 : Option Nat) (h : xm_H) (s : Int32 × Int32) : Option (Int32) := xl_loop (D_X3_difference_4 g l0 l1 h) s
noncomputable def F_X3_difference (g : xm_G) (p0 : Nat) (p1 : Option Nat) (h : xm_H) : Option (Int32) :=
 L_X3_difference_4 g p0 p1 h (0, 0)
set_option maxHeartbeats 4000000 in
theorem K_X3_difference {g : xm_G} (hG : xm_Gw g) (p0 : Nat) (p1 : Option Nat) (h : xm_H) {o : Int32} (e : F_X3_difference g p0 p1 h = some o) {Q : xm_P} {X : xm_X} (hQ : Q (some (.int o)) h) : xm_Run g M_X3_difference 2 [.ref p0, va_rf p1] h 0 0 Q X := by
  refine xm_Run.of2 (ls := [some (.ref p0), some (va_rf p1), none, none]) pn_StringTableau_Tableau (by cases p1 <;> exact Nat.le_of_ble_eq_true rfl) (by cases p1 <;> rfl) (fun Γ hΓ => ?_)
  obtain ⟨P0, hP0, hp⟩ : ∃ P : Int32 → Prop, (∀ o, P o → Q (some (.int o)) h) ∧ P o := ⟨fun o => Q (some (.int o)) h, fun _ h => h, hQ⟩
  clear hQ
  show xm_W g Γ 0 [some (.ref p0), some (va_rf p1), none, none] [] h 0 0
  have hL_4 : ∀ (l0 : Nat) (l1 : Option Nat) (s : Int32 × Int32) (o : Int32), L_X3_difference_4 g l0 l1 h s = some o → P0 o → xm_W g Γ 4 [some (.ref l0), some (va_rf l1), some (.int s.1), some (.int s.2)] [] h 0 0 := by
    intro l0 l1
    refine xl_rule (WS := fun s : Int32 × Int32 => xm_W g Γ 4 [some (.ref l0), some (va_rf l1), some (.int s.1), some (.int s.2)] [] h 0 0) ?_
    intro s o e hp
    obtain ⟨P1, hP1, hp⟩ : ∃ P : (Int32 × Int32) ⊕ (Int32) → Prop, (∀ o, P o → xl_P (fun s : Int32 × Int32 => xm_W g Γ 4 [some (.ref l0), some (va_rf l1), some (.int s.1), some (.int s.2)] [] h 0 0) P0 o) ∧ P o := ⟨_, fun _ h => h, hp⟩
    have hB_34 : ∀ (l2 : Int32) (l3 : Int32) (o : (Int32 × Int32) ⊕ (Int32)), B_X3_difference_34 g l0 l1 l2 l3 h = some o → P1 o → xm_W g Γ 34 [some (.ref l0), some (va_rf l1), some (.int l2), some (.int l3)] [] h 0 0 := by
      intro l2 l3 o e hp
      unfold B_X3_difference_34 at e
      refine xw_inc (v := (1)) (ls' := [some (.ref l0), some (va_rf l1), some (.int l2), some (.int (l3 + 1))]) (show xm_Imp g Γ 34 (xi_inc 3 (1) 37) from xs_iinc hΓ dX3_difference_34 (by decide) (Nat.le_of_ble_eq_true rfl)) rfl rfl ?_
      refine xw_goto (show xm_Imp g Γ 37 (xi_goto 4) from xs_goto hΓ dX3_difference_37 (by decide)) ?_
      have hq := xl_P_inl (hP1 _ (xl_fin e hp)); exact hq
    unfold D_X3_difference_4 at e
    refine xw_ild (show xm_Imp g Γ 4 (xi_ild 3 5) from xs_iload_n hΓ dX3_difference_4) rfl ?_
    refine xw_ald (show xm_Imp g Γ 5 (xi_ald 0 6) from xs_aload_n hΓ dX3_difference_5) rfl ?_
    obtain ⟨v1, e1, e⟩ := xo_b_s e
    refine xw_gr1 (o := (some l0)) (show xm_Imp g Γ 6 (xi_get 2 0 9) from xs_get hG hΓ (ci := 2) (kf := 0) rfl (Nat.le_of_ble_eq_true rfl) q268 dX3_difference_6) rfl e1 ?_
    obtain ⟨a2, ha2, e⟩ := xo_b_s e
    obtain ⟨v3, e1, e⟩ := xo_b_s e
    refine xw_hlen (o := v1) (show xm_Imp g Γ 9 (xi_len 10) from xs_len hG hΓ dX3_difference_9) ha2 e1 ?_
    refine xw_ic (show xm_Imp g Γ 10 (xi_ic (fun x y => y ≤ x) 40 13) from xs_icmp_ge hΓ dX3_difference_10 (by decide)) (fun c => ?_) (fun c => ?_)
    · rw [if_pos c] at e
      obtain ⟨_, e, hp⟩ := xl_o_s e (hP1 _ hp)
      refine xw_ild (show xm_Imp g Γ 40 (xi_ild 2 41) from xs_iload_n hΓ dX3_difference_40) rfl ?_
      have hq := hP0 _ (xl_fin e hp)
      exact xw_iret (show xm_Imp g Γ 41 (xi_iret .int _) from xs_ireturn hΓ rfl dX3_difference_41) (xn_int _) hq
    · rw [if_neg c] at e
      refine xw_ald (show xm_Imp g Γ 13 (xi_ald 0 14) from xs_aload_n hΓ dX3_difference_13) rfl ?_
      obtain ⟨v4, e1, e⟩ := xo_b_s e
      refine xw_gr1 (o := (some l0)) (show xm_Imp g Γ 14 (xi_get 2 0 17) from xs_get hG hΓ (ci := 2) (kf := 0) rfl (Nat.le_of_ble_eq_true rfl) q268 dX3_difference_14) rfl e1 ?_
      refine xw_ild (show xm_Imp g Γ 17 (xi_ild 3 18) from xs_iload_n hΓ dX3_difference_17) rfl ?_
      obtain ⟨a5, ha5, e⟩ := xo_b_s e
      obtain ⟨v6, e1, e⟩ := xo_b_s e
      refine xw_haal (o := v4) (show xm_Imp g Γ 18 (xi_aal "StringTableau$Row" 19) from xs_aal hG hΓ dX3_difference_18) ha5 e1 ?_
      refine xw_aldo (x := l1) (show xm_Imp g Γ 19 (xi_ald 1 20) from xs_aload_n hΓ dX3_difference_19) rfl ?_
      obtain ⟨a7, ha7, e⟩ := xo_b_s e
      obtain ⟨v8, e1, e⟩ := xo_b_s e
      refine xw_gr1 (o := l1) (show xm_Imp g Γ 20 (xi_get 2 0 23) from xs_get hG hΓ (ci := 2) (kf := 0) rfl (Nat.le_of_ble_eq_true rfl) q268 dX3_difference_20) ha7 e1 ?_
      refine xw_ild (show xm_Imp g Γ 23 (xi_ild 3 24) from xs_iload_n hΓ dX3_difference_23) rfl ?_
      obtain ⟨a9, ha9, e⟩ := xo_b_s e
      obtain ⟨v10, e1, e⟩ := xo_b_s e
      refine xw_haal (o := v8) (show xm_Imp g Γ 24 (xi_aal "StringTableau$Row" 25) from xs_aal hG hΓ dX3_difference_24) ha9 e1 ?_
      obtain ⟨a11, ha11, e⟩ := xo_b_s e
      obtain ⟨_, e0, e⟩ := xo_b_s e
      obtain ⟨v12, e1, e⟩ := xo_b_s e
      refine xw_hv1 (o := v6) (show xm_Imp g Γ 25 (xi_vir g 3 M_X4_isLike 1 1 28) from xs_invV hG hΓ k_X4_isLike rfl (ci := 3) rfl q1629 q1630 q1631 dX3_difference_25) (by simp [xm_stk, xv_cat, xc_int, xc_long, xc_float, xc_double, xc_ref]) ha11 e0 (fun Q X hQ => K_X4_isLike hG a11 v10 _ e1 hQ) ?_
      refine xw_if (show xm_Imp g Γ 28 (xi_if (fun x => x = 0) 31 34) from xs_if_ne hΓ dX3_difference_28 (by decide)) (fun c => ?_) (fun c => ?_)
      · rw [if_pos c] at e
        refine xw_inc (v := (1)) (ls' := [some (.ref l0), some (va_rf l1), some (.int (s.1 + 1)), some (.int s.2)]) (show xm_Imp g Γ 31 (xi_inc 2 (1) 34) from xs_iinc hΓ dX3_difference_31 (by decide) (Nat.le_of_ble_eq_true rfl)) rfl ((xm_s1_o (o := l1) rfl).trans rfl) ?_
        exact hB_34 _ _ _ e hp
      · rw [if_neg c] at e
        exact hB_34 _ _ _ e hp
  unfold F_X3_difference at e
  refine xw_psh (v := (.int (0))) (show xm_Imp g Γ 0 (xi_psh (.int (0)) 1) from xs_iconst hΓ dX3_difference_0 (by decide)) ?_
  refine xw_ist (ls' := [some (.ref p0), some (va_rf p1), some (.int 0), none]) (show xm_Imp g Γ 1 (xi_ist 2 2) from xs_istore_n hΓ dX3_difference_1 (Nat.le_of_ble_eq_true rfl)) ((xm_s1_o (o := p1) rfl).trans rfl) ?_
  refine xw_psh (v := (.int (0))) (show xm_Imp g Γ 2 (xi_psh (.int (0)) 3) from xs_iconst hΓ dX3_difference_2 (by decide)) ?_
  refine xw_ist (ls' := [some (.ref p0), some (va_rf p1), some (.int 0), some (.int 0)]) (show xm_Imp g Γ 3 (xi_ist 3 4) from xs_istore_n hΓ dX3_difference_3 (Nat.le_of_ble_eq_true rfl)) rfl ?_
  exact hL_4 _ _ _ _ e hp
noncomputable def F_X1_replaceRows (g : xm_G) (p0 : Nat) (p1 : Option Nat) (h : xm_H) (bc : Nat) (bs : Nat) (Q : Int32 → xm_H → Prop) : Prop :=
 xt_b (xh_fr [(0, 0)] h p0) (fun v1 =>
 xt_b v1 (fun a2 =>
 xt_b (xh_fr [(1, 0)] h a2) (fun v3 =>
 xt_b (xh_is 0 h p0) (fun _ =>
 xt_c bc bs (fun m4 m5 => F_X1_remember g p0 h m4 m5 (fun h6 =>
 xt_b (xh_fr [(0, 0)] h6 p0) (fun v8 =>
 xt_b v8 (fun a9 =>
 xt_b (xh_w [(1, 0)] h6 a9 (va_rf p1)) (fun h10 =>
 xt_b p1 (fun a11 =>
 xt_b (xh_is 2 h10 a11) (fun _ =>
 xt_b (F_X3_difference g a11 v3 h10) (fun v12 =>
 Q v12 h10))))))))))))
set_option maxHeartbeats 4000000 in
theorem K_X1_replaceRows {g : xm_G} (hG : xm_Gw g) (p0 : Nat) (p1 : Option Nat) (h : xm_H) (bc : Nat) (bs : Nat) {Q : Int32 → xm_H → Prop} (e : F_X1_replaceRows g p0 p1 h bc bs Q) : xm_Run g M_X1_replaceRows 13 [.ref p0, va_rf p1] h bc bs (fun v h' => ∃ r, v = some (.int r) ∧ Q r h') xm_no := by
  refine xm_Run.of2 (ls := [some (.ref p0), some (va_rf p1), none]) pn_StringTableau (by cases p1 <;> exact Nat.le_of_ble_eq_true rfl) (by cases p1 <;> rfl) (fun Γ hΓ => ?_)
  show xm_W g Γ 0 [some (.ref p0), some (va_rf p1), none] [] h bc bs
  unfold F_X1_replaceRows at e
  refine xw_ald (show xm_Imp g Γ 0 (xi_ald 0 1) from xs_aload_n hΓ dX1_replaceRows_0) rfl ?_
  obtain ⟨v1, e1, e⟩ := e
  refine xw_gr1 (o := (some p0)) (show xm_Imp g Γ 1 (xi_get 0 0 4) from xs_get hG hΓ (ci := 0) (kf := 0) rfl (Nat.le_of_ble_eq_true rfl) q343 dX1_replaceRows_1) rfl e1 ?_
  obtain ⟨a2, ha2, e⟩ := e
  obtain ⟨v3, e1, e⟩ := e
  refine xw_gr1 (o := v1) (show xm_Imp g Γ 4 (xi_get 1 0 7) from xs_getN hG hΓ (ci := 1) (kf := 0) rfl (Nat.le_of_ble_eq_true rfl) q276 dX1_replaceRows_4) ha2 e1 ?_
  refine xw_asto (x := v3) (ls' := [some (.ref p0), some (va_rf p1), some (va_rf v3)]) (show xm_Imp g Γ 7 (xi_ast 2 8) from xs_astore_n hΓ dX1_replaceRows_7 (Nat.le_of_ble_eq_true rfl)) ((xm_s1_o (o := p1) rfl).trans rfl) ?_
  refine xw_ald (show xm_Imp g Γ 8 (xi_ald 0 9) from xs_aload_n hΓ dX1_replaceRows_8) rfl ?_
  obtain ⟨_, e0, e⟩ := e
  obtain ⟨m4, m5, ⟨em1, em2⟩, e⟩ := e
  refine xw_tvu0 (o := (some p0)) (show xm_Imp g Γ 9 (xi_vir g 0 M_X1_remember 12 0 12) from xs_invV hG hΓ k_X1_remember rfl (ci := 0) rfl q1243 q1245 qs23 dX1_replaceRows_9) rfl rfl e0 em1 em2 (K_X1_remember hG p0 _ _ _ e) (fun h6 e => ?_)
  refine xw_ald (show xm_Imp g Γ 12 (xi_ald 0 13) from xs_aload_n hΓ dX1_replaceRows_12) rfl ?_
  obtain ⟨v8, e1, e⟩ := e
  refine xw_gr1 (o := (some p0)) (show xm_Imp g Γ 13 (xi_get 0 0 16) from xs_get hG hΓ (ci := 0) (kf := 0) rfl (Nat.le_of_ble_eq_true rfl) q343 dX1_replaceRows_13) rfl e1 ?_
  refine xw_aldo (x := p1) (show xm_Imp g Γ 16 (xi_ald 1 17) from xs_aload_n hΓ dX1_replaceRows_16) rfl ?_
  obtain ⟨a9, ha9, e⟩ := e
  obtain ⟨h10, e1, e⟩ := e
  refine xw_pt1 (o := v8) (show xm_Imp g Γ 17 (xi_put 1 0 (.object "StringTableau$Tableau") 20) from xs_putN hG hΓ (ci := 1) (kf := 0) rfl (Nat.le_of_ble_eq_true rfl) rfl (by decide +kernel) q276 dX1_replaceRows_17) ha9 (xv_fit (Or.inl ⟨_, rfl⟩) p1) e1 ?_
  refine xw_aldo (x := p1) (show xm_Imp g Γ 20 (xi_ald 1 21) from xs_aload_n hΓ dX1_replaceRows_20) rfl ?_
  refine xw_aldo (x := v3) (show xm_Imp g Γ 21 (xi_ald 2 22) from xs_aload_n hΓ dX1_replaceRows_21) rfl ?_
  obtain ⟨a11, ha11, e⟩ := e
  obtain ⟨_, e0, e⟩ := e
  obtain ⟨v12, e1, e⟩ := e
  refine xw_hv1 (o := p1) (show xm_Imp g Γ 22 (xi_vir g 2 M_X3_difference 2 1 25) from xs_invV hG hΓ k_X3_difference rfl (ci := 2) rfl q1625 q1626 q1627 dX1_replaceRows_22) (by simp [xm_stk, xv_cat, xc_int, xc_long, xc_float, xc_double, xc_ref]) ha11 e0 (fun Q X hQ => K_X3_difference hG a11 v3 _ e1 hQ) ?_
  exact xw_iret (show xm_Imp g Γ 25 (xi_iret .int _) from xs_ireturn hΓ rfl dX1_replaceRows_25) (xn_int _) ⟨_, rfl, e⟩
